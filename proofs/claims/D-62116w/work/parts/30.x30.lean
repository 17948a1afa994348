theorem d_CX_shaped_0 : decode b_CX_shaped 0 = .ok (.iconst 1, 1) := by decide +kernel
theorem d_CX_shaped_1 : decode b_CX_shaped 1 = .ok (.istore_n 1, 1) := by decide +kernel
theorem d_CX_shaped_2 : decode b_CX_shaped 2 = .ok (.iload_n 0, 1) := by decide +kernel
theorem d_CX_shaped_3 : decode b_CX_shaped 3 = .ok (.istore_n 2, 1) := by decide +kernel
theorem d_CX_shaped_4 : decode b_CX_shaped 4 = .ok (.iconst 0, 1) := by decide +kernel
theorem d_CX_shaped_5 : decode b_CX_shaped 5 = .ok (.istore_n 3, 1) := by decide +kernel
theorem d_CX_shaped_6 : decode b_CX_shaped 6 = .ok (.iload_n 1, 1) := by decide +kernel
theorem d_CX_shaped_7 : decode b_CX_shaped 7 = .ok (.ifCond .le 55, 3) := by decide +kernel
theorem d_CX_shaped_10 : decode b_CX_shaped 10 = .ok (.iload_n 2, 1) := by decide +kernel
theorem d_CX_shaped_11 : decode b_CX_shaped 11 = .ok (.iconst 3, 1) := by decide +kernel
theorem d_CX_shaped_12 : decode b_CX_shaped 12 = .ok (.iand, 1) := by decide +kernel
theorem d_CX_shaped_13 : decode b_CX_shaped 13 = .ok (.istore 4, 2) := by decide +kernel
theorem d_CX_shaped_15 : decode b_CX_shaped 15 = .ok (.iload_n 3, 1) := by decide +kernel
theorem d_CX_shaped_16 : decode b_CX_shaped 16 = .ok (.bipush 7, 2) := by decide +kernel
theorem d_CX_shaped_18 : decode b_CX_shaped 18 = .ok (.if_icmp .ge 8, 3) := by decide +kernel
theorem d_CX_shaped_21 : decode b_CX_shaped 21 = .ok (.iload 4, 2) := by decide +kernel
theorem d_CX_shaped_23 : decode b_CX_shaped 23 = .ok (.ifCond .ne 5, 3) := by decide +kernel
theorem d_CX_shaped_26 : decode b_CX_shaped 26 = .ok (.iconst 0, 1) := by decide +kernel
theorem d_CX_shaped_27 : decode b_CX_shaped 27 = .ok (.ireturn, 1) := by decide +kernel
theorem d_CX_shaped_28 : decode b_CX_shaped 28 = .ok (.iload_n 1, 1) := by decide +kernel
theorem d_CX_shaped_29 : decode b_CX_shaped 29 = .ok (.iload 4, 2) := by decide +kernel
theorem d_CX_shaped_31 : decode b_CX_shaped 31 = .ok (.iconst 1, 1) := by decide +kernel
theorem d_CX_shaped_32 : decode b_CX_shaped 32 = .ok (.if_icmp .ne 7, 3) := by decide +kernel
theorem d_CX_shaped_35 : decode b_CX_shaped 35 = .ok (.iconst (-1), 1) := by decide +kernel
theorem d_CX_shaped_36 : decode b_CX_shaped 36 = .ok (.goto 14, 3) := by decide +kernel
theorem d_CX_shaped_39 : decode b_CX_shaped 39 = .ok (.iload 4, 2) := by decide +kernel
theorem d_CX_shaped_41 : decode b_CX_shaped 41 = .ok (.iconst 3, 1) := by decide +kernel
theorem d_CX_shaped_42 : decode b_CX_shaped 42 = .ok (.if_icmp .ne 7, 3) := by decide +kernel
theorem d_CX_shaped_45 : decode b_CX_shaped 45 = .ok (.iconst 1, 1) := by decide +kernel
theorem d_CX_shaped_46 : decode b_CX_shaped 46 = .ok (.goto 4, 3) := by decide +kernel
theorem d_CX_shaped_49 : decode b_CX_shaped 49 = .ok (.iconst 0, 1) := by decide +kernel
theorem d_CX_shaped_50 : decode b_CX_shaped 50 = .ok (.iadd, 1) := by decide +kernel
theorem d_CX_shaped_51 : decode b_CX_shaped 51 = .ok (.istore_n 1, 1) := by decide +kernel
theorem d_CX_shaped_52 : decode b_CX_shaped 52 = .ok (.iload_n 2, 1) := by decide +kernel
theorem d_CX_shaped_53 : decode b_CX_shaped 53 = .ok (.iconst 2, 1) := by decide +kernel
theorem d_CX_shaped_54 : decode b_CX_shaped 54 = .ok (.iushr, 1) := by decide +kernel
theorem d_CX_shaped_55 : decode b_CX_shaped 55 = .ok (.istore_n 2, 1) := by decide +kernel
theorem d_CX_shaped_56 : decode b_CX_shaped 56 = .ok (.iinc 3 1, 3) := by decide +kernel
theorem d_CX_shaped_59 : decode b_CX_shaped 59 = .ok (.goto (-53), 3) := by decide +kernel
theorem d_CX_shaped_62 : decode b_CX_shaped 62 = .ok (.iload_n 2, 1) := by decide +kernel
theorem d_CX_shaped_63 : decode b_CX_shaped 63 = .ok (.ifCond .ne 12, 3) := by decide +kernel
theorem d_CX_shaped_66 : decode b_CX_shaped 66 = .ok (.iload_n 0, 1) := by decide +kernel
theorem d_CX_shaped_67 : decode b_CX_shaped 67 = .ok (.iconst 1, 1) := by decide +kernel
theorem d_CX_shaped_68 : decode b_CX_shaped 68 = .ok (.if_icmp .eq 7, 3) := by decide +kernel
theorem d_CX_shaped_71 : decode b_CX_shaped 71 = .ok (.iconst 1, 1) := by decide +kernel
theorem d_CX_shaped_72 : decode b_CX_shaped 72 = .ok (.goto 4, 3) := by decide +kernel
theorem d_CX_shaped_75 : decode b_CX_shaped 75 = .ok (.iconst 0, 1) := by decide +kernel
theorem d_CX_shaped_76 : decode b_CX_shaped 76 = .ok (.ireturn, 1) := by decide +kernel
def bk_CX_shaped_50 (Q : Int → zS → Prop) (J6 : Int → Int → Int → Int → zS → Prop) (v0 : Int) (v2 : Int) (v3 : Int) (z0 : Int) (z1 : Int) (σ : zS) : Prop :=
  ∀ y6, y6 = z1 + z0 →
  ∀ y7, y7 = zushr v2 2 →
  J6 v0 y6 y7 (v3 + 1) σ
def lp_CX_shaped_6 (Q : Int → zS → Prop) : Nat → Int → Int → Int → Int → zS → Prop
  | 0 => fun _ _ _ _ _ => False
  | n + 1 => fun v0 v1 v2 v3 σ =>
    zc v1 ∧ ((v1 ≤ 0 →
      zc v2 ∧ ((v2 = 0 →
        zc v0 ∧ ((v0 = 1 →
          Q 0 σ) ∧
         (¬ v0 = 1 →
          Q 1 σ))) ∧
       (¬ v2 = 0 →
        Q 0 σ))) ∧
     (¬ v1 ≤ 0 →
      ∀ y4, y4 = zand v2 3 →
      zc v3 ∧ ((7 ≤ v3 →
        Q 0 σ) ∧
       (¬ 7 ≤ v3 →
        ((y4 = 0 →
          Q 0 σ) ∧
         (¬ y4 = 0 →
          ((y4 = 1 →
            bk_CX_shaped_50 Q (lp_CX_shaped_6 Q n) v0 v2 v3 (-1) v1 σ) ∧
           (¬ y4 = 1 →
            ((y4 = 3 →
              bk_CX_shaped_50 Q (lp_CX_shaped_6 Q n) v0 v2 v3 1 v1 σ) ∧
             (¬ y4 = 3 →
              bk_CX_shaped_50 Q (lp_CX_shaped_6 Q n) v0 v2 v3 0 v1 σ))))))))))
def wp_CX_shaped (Q : Int → zS → Prop) (v0 : Int) (σ : zS) : Prop :=
  ∃ u6, lp_CX_shaped_6 Q u6 v0 1 v0 0 σ
set_option maxHeartbeats 4000000 in
set_option maxRecDepth 100000 in
theorem wk_CX_shaped_50 {E : zE} {D : va_G} {g : zG} {A : Nat → Prop} {ad : zA} {Q : Int → zS → Prop} {J6 : Int → Int → Int → Int → zS → Prop} (C : zX E b_CX_shaped R_CX D g { frames := 0, cells := 0, slots := 0, locals := 0 } 5) (R : zRt E (some .boolean) (zQi D g ad Q A) 0 0 A) (S : zSt g A (zst E) (zst E).heap) (hJ6 : ∀ (v0 : Int) (v1 : Int) (v2 : Int) (v3 : Int) (σ : zS), J6 v0 v1 v2 v3 σ → zW E (zOK D A (zst E) g ad) 0 0 6 [(0, .int (zi v0)), (1, .int (zi v1)), (2, .int (zi v2)), (3, .int (zi v3))] [] σ) (v0 : Int) (v2 : Int) (v3 : Int) (z0 : Int) (z1 : Int) (σ : zS) (h : bk_CX_shaped_50 Q J6 v0 v2 v3 z0 z1 σ) : zW E (zOK D A (zst E) g ad) 0 0 50 [(0, .int (zi v0)), (2, .int (zi v2)), (3, .int (zi v3))] [.int (zi z0), .int (zi z1)] σ := by
  unfold bk_CX_shaped_50 at h
  refine z_iadd C (pc := 50) d_CX_shaped_50 ?_
  refine zNi h (fun y6 ey6 h => ?_)
  refine z_istore_n (L' := [(1, .int (zi y6)), (0, .int (zi v0)), (2, .int (zi v2)), (3, .int (zi v3))]) C (pc := 51) d_CX_shaped_51 (by decide) rfl ?_
  refine z_iload_n C (pc := 52) d_CX_shaped_52 2 rfl ?_
  refine z_iconst C (pc := 53) d_CX_shaped_53 ?_
  refine z_iushr C (pc := 54) d_CX_shaped_54 ?_
  refine zNi h (fun y7 ey7 h => ?_)
  refine z_istore_n (L' := [(2, .int (zi y7)), (1, .int (zi y6)), (0, .int (zi v0)), (3, .int (zi v3))]) C (pc := 55) d_CX_shaped_55 (by decide) rfl ?_
  refine z_iinc (L' := [(3, .int (zi (v3 + 1))), (2, .int (zi y7)), (1, .int (zi y6)), (0, .int (zi v0))]) C (pc := 56) d_CX_shaped_56 3 rfl (by decide) rfl ?_
  refine z_goto (tgt := 6) C (pc := 59) d_CX_shaped_59 (by decide) ?_
  refine z_sub [3, 2, 1, 0] rfl ?_
  exact hJ6 _ _ _ _ _ h
set_option maxHeartbeats 4000000 in
set_option maxRecDepth 100000 in
theorem wk_CX_shaped_6 {E : zE} {D : va_G} {g : zG} {A : Nat → Prop} {ad : zA} {Q : Int → zS → Prop} (C : zX E b_CX_shaped R_CX D g { frames := 0, cells := 0, slots := 0, locals := 0 } 5) (R : zRt E (some .boolean) (zQi D g ad Q A) 0 0 A) (S : zSt g A (zst E) (zst E).heap) : ∀ (n : Nat) (v0 : Int) (v1 : Int) (v2 : Int) (v3 : Int) (σ : zS), lp_CX_shaped_6 Q n v0 v1 v2 v3 σ → zW E (zOK D A (zst E) g ad) 0 0 6 [(0, .int (zi v0)), (1, .int (zi v1)), (2, .int (zi v2)), (3, .int (zi v3))] [] σ := by
  intro n
  induction n with
  | zero =>
    intro v0 v1 v2 v3 σ h
    exact h.elim
  | succ n ih =>
    intro v0 v1 v2 v3 σ h
    refine z_iload_n C (pc := 6) d_CX_shaped_6 1 rfl ?_
    obtain ⟨hc1, h⟩ := h
    refine z_if_le (tgt := 62) C (pc := 7) d_CX_shaped_7 (by decide) hc1 h (fun h => ?_) (fun h => ?_)
    · refine z_iload_n C (pc := 62) d_CX_shaped_62 2 rfl ?_
      obtain ⟨hc2, h⟩ := h
      refine z_if_ne (tgt := 75) C (pc := 63) d_CX_shaped_63 (by decide) hc2 h (fun h => ?_) (fun h => ?_)
      · refine z_iconst C (pc := 75) d_CX_shaped_75 ?_
        exact z_zret C R (pc := 76) d_CX_shaped_76 (by decide) h
      · refine z_iload_n C (pc := 66) d_CX_shaped_66 0 rfl ?_
        refine z_iconst C (pc := 67) d_CX_shaped_67 ?_
        obtain ⟨hc3, h⟩ := h
        refine z_icmp_eq (tgt := 75) C (pc := 68) d_CX_shaped_68 (by decide) hc3 (by decide) h (fun h => ?_) (fun h => ?_)
        · refine z_iconst C (pc := 75) d_CX_shaped_75 ?_
          exact z_zret C R (pc := 76) d_CX_shaped_76 (by decide) h
        · refine z_iconst C (pc := 71) d_CX_shaped_71 ?_
          refine z_goto (tgt := 76) C (pc := 72) d_CX_shaped_72 (by decide) ?_
          exact z_zret C R (pc := 76) d_CX_shaped_76 (by decide) h
    · refine z_iload_n C (pc := 10) d_CX_shaped_10 2 rfl ?_
      refine z_iconst C (pc := 11) d_CX_shaped_11 ?_
      refine z_iand C (pc := 12) d_CX_shaped_12 ?_
      refine zNi h (fun y4 ey4 h => ?_)
      refine z_istore (L' := [(4, .int (zi y4)), (0, .int (zi v0)), (1, .int (zi v1)), (2, .int (zi v2)), (3, .int (zi v3))]) C (pc := 13) d_CX_shaped_13 (by decide) rfl ?_
      refine z_iload_n C (pc := 15) d_CX_shaped_15 4 rfl ?_
      refine z_bipush C (pc := 16) d_CX_shaped_16 (by decide) ?_
      obtain ⟨hc5, h⟩ := h
      refine z_icmp_ge (tgt := 26) C (pc := 18) d_CX_shaped_18 (by decide) hc5 (by decide) h (fun h => ?_) (fun h => ?_)
      · refine z_iconst C (pc := 26) d_CX_shaped_26 ?_
        exact z_zret C R (pc := 27) d_CX_shaped_27 (by decide) h
      · refine z_iload C (pc := 21) d_CX_shaped_21 0 rfl ?_
        refine z_if_ne (tgt := 28) C (pc := 23) d_CX_shaped_23 (by decide) (ey4 ▸ zc_and _ _) h (fun h => ?_) (fun h => ?_)
        · refine z_iload_n C (pc := 28) d_CX_shaped_28 2 rfl ?_
          refine z_iload C (pc := 29) d_CX_shaped_29 0 rfl ?_
          refine z_iconst C (pc := 31) d_CX_shaped_31 ?_
          refine z_icmp_ne (tgt := 39) C (pc := 32) d_CX_shaped_32 (by decide) (ey4 ▸ zc_and _ _) (by decide) h (fun h => ?_) (fun h => ?_)
          · refine z_iload C (pc := 39) d_CX_shaped_39 0 rfl ?_
            refine z_iconst C (pc := 41) d_CX_shaped_41 ?_
            refine z_icmp_ne (tgt := 49) C (pc := 42) d_CX_shaped_42 (by decide) (ey4 ▸ zc_and _ _) (by decide) h (fun h => ?_) (fun h => ?_)
            · refine z_iconst C (pc := 49) d_CX_shaped_49 ?_
              refine z_sub [1, 3, 4] rfl ?_
              exact wk_CX_shaped_50 C R S ih _ _ _ _ _ _ h
            · refine z_iconst C (pc := 45) d_CX_shaped_45 ?_
              refine z_goto (tgt := 50) C (pc := 46) d_CX_shaped_46 (by decide) ?_
              refine z_sub [1, 3, 4] rfl ?_
              exact wk_CX_shaped_50 C R S ih _ _ _ _ _ _ h
          · refine z_iconst C (pc := 35) d_CX_shaped_35 ?_
            refine z_goto (tgt := 50) C (pc := 36) d_CX_shaped_36 (by decide) ?_
            refine z_sub [1, 3, 4] rfl ?_
            exact wk_CX_shaped_50 C R S ih _ _ _ _ _ _ h
        · refine z_iconst C (pc := 26) d_CX_shaped_26 ?_
          exact z_zret C R (pc := 27) d_CX_shaped_27 (by decide) h
set_option maxHeartbeats 4000000 in
set_option maxRecDepth 100000 in
theorem c_CX_shaped (l : Launch) (D : va_G) (g : zG) (ad : zA) (v0 : Int) (Q : Int → zS → Prop) (σ : zS) (h : wp_CX_shaped Q v0 σ) : zGi l y_CX_shaped b_CX_shaped 5 (some .boolean) { frames := 0, cells := 0, slots := 0, locals := 0 } D g ad σ [.int (zi v0)] Q := by
  unfold wp_CX_shaped at h
  refine zN_of (by decide) (Nat.le_of_ble_eq_true rfl) (fun E C R S => ?_)
  have C : zX E b_CX_shaped R_CX D g { frames := 0, cells := 0, slots := 0, locals := 0 } 5 := C
  refine z_sub (L' := [(0, .int (zi v0))]) [0] rfl ?_
  refine z_iconst C (pc := 0) d_CX_shaped_0 ?_
  refine z_istore_n (L' := [(1, .int (zi 1)), (0, .int (zi v0))]) C (pc := 1) d_CX_shaped_1 (by decide) rfl ?_
  refine z_iload_n C (pc := 2) d_CX_shaped_2 1 rfl ?_
  refine z_istore_n (L' := [(2, .int (zi v0)), (1, .int (zi 1)), (0, .int (zi v0))]) C (pc := 3) d_CX_shaped_3 (by decide) rfl ?_
  refine z_iconst C (pc := 4) d_CX_shaped_4 ?_
  refine z_istore_n (L' := [(3, .int (zi 0)), (2, .int (zi v0)), (1, .int (zi 1)), (0, .int (zi v0))]) C (pc := 5) d_CX_shaped_5 (by decide) rfl ?_
  refine z_sub [3, 2, 1, 0] rfl ?_
  obtain ⟨n8, h⟩ := h
  exact wk_CX_shaped_6 C R S n8 _ _ _ _ _ h
theorem d_DG_next_0 : decode b_DG_next 0 = .ok (.aload_n 0, 1) := by decide +kernel
theorem d_DG_next_1 : decode b_DG_next 1 = .ok (.getfield 7, 3) := by decide +kernel
theorem d_DG_next_4 : decode b_DG_next 4 = .ok (.iconst 3, 1) := by decide +kernel
theorem d_DG_next_5 : decode b_DG_next 5 = .ok (.iand, 1) := by decide +kernel
theorem d_DG_next_6 : decode b_DG_next 6 = .ok (.istore_n 1, 1) := by decide +kernel
theorem d_DG_next_7 : decode b_DG_next 7 = .ok (.aload_n 0, 1) := by decide +kernel
theorem d_DG_next_8 : decode b_DG_next 8 = .ok (.aload_n 0, 1) := by decide +kernel
theorem d_DG_next_9 : decode b_DG_next 9 = .ok (.getfield 7, 3) := by decide +kernel
theorem d_DG_next_12 : decode b_DG_next 12 = .ok (.iconst 2, 1) := by decide +kernel
theorem d_DG_next_13 : decode b_DG_next 13 = .ok (.iushr, 1) := by decide +kernel
theorem d_DG_next_14 : decode b_DG_next 14 = .ok (.putfield 7, 3) := by decide +kernel
theorem d_DG_next_17 : decode b_DG_next 17 = .ok (.iload_n 1, 1) := by decide +kernel
theorem d_DG_next_18 : decode b_DG_next 18 = .ok (.ireturn, 1) := by decide +kernel
def wp_DG_next (Q : Int → zS → Prop) (σ : zS) : Prop :=
  ∀ y1, y1 = zand (σ 61 0) 3 →
  ∀ σ2, σ2 = zup σ 61 0 (zushr (σ 61 0) 2) →
  Q y1 σ2
set_option maxHeartbeats 4000000 in
set_option maxRecDepth 100000 in
theorem c_DG_next (l : Launch) (D : va_G) (g : zG) (ad : zA) (Q : Int → zS → Prop) (σ : zS) (h : wp_DG_next Q σ) : zGi l y_DG_next b_DG_next 2 (some .int) { frames := 0, cells := 0, slots := 0, locals := 0 } D g ad σ [.ref (ad (0, 2))] Q := by
  unfold wp_DG_next at h
  refine zN_of (by decide) (Nat.le_of_ble_eq_true rfl) (fun E C R S => ?_)
  have C : zX E b_DG_next R_DG D g { frames := 0, cells := 0, slots := 0, locals := 0 } 2 := C
  refine z_sub (L' := [(0, .ref (ad (0, 2)))]) [0] rfl ?_
  refine z_aload_n C (pc := 0) d_DG_next_0 0 rfl ?_
  refine x_getD C 0 (by decide) wd_75 (pc := 1) d_DG_next_1 ?_
  refine z_iconst C (pc := 4) d_DG_next_4 ?_
  refine z_iand C (pc := 5) d_DG_next_5 ?_
  refine zNi h (fun y1 ey1 h => ?_)
  refine z_istore_n (L' := [(1, .int (zi y1)), (0, .ref (ad (0, 2)))]) C (pc := 6) d_DG_next_6 (by decide) rfl ?_
  refine z_aload_n C (pc := 7) d_DG_next_7 1 rfl ?_
  refine z_aload_n C (pc := 8) d_DG_next_8 1 rfl ?_
  refine x_getD C 0 (by decide) wd_75 (pc := 9) d_DG_next_9 ?_
  refine z_iconst C (pc := 12) d_DG_next_12 ?_
  refine z_iushr C (pc := 13) d_DG_next_13 ?_
  refine x_putD C 0 (by decide) wd_75 (pc := 14) d_DG_next_14 ?_
  refine zN h (fun σ2 eσ2 h => ?_)
  refine z_iload_n C (pc := 17) d_DG_next_17 0 rfl ?_
  exact z_iret C R (pc := 18) d_DG_next_18 h
theorem d_CX_changed_0 : decode b_CX_changed 0 = .ok (.aload_n 0, 1) := by decide +kernel
theorem d_CX_changed_1 : decode b_CX_changed 1 = .ok (.iconst 0, 1) := by decide +kernel
theorem d_CX_changed_2 : decode b_CX_changed 2 = .ok (.putfield 109, 3) := by decide +kernel
theorem d_CX_changed_5 : decode b_CX_changed 5 = .ok (.iconst 0, 1) := by decide +kernel
theorem d_CX_changed_6 : decode b_CX_changed 6 = .ok (.istore_n 1, 1) := by decide +kernel
theorem d_CX_changed_7 : decode b_CX_changed 7 = .ok (.iload_n 1, 1) := by decide +kernel
theorem d_CX_changed_8 : decode b_CX_changed 8 = .ok (.aload_n 0, 1) := by decide +kernel
theorem d_CX_changed_9 : decode b_CX_changed 9 = .ok (.getfield 75, 3) := by decide +kernel
theorem d_CX_changed_12 : decode b_CX_changed 12 = .ok (.invokevirtual 113, 3) := by decide +kernel
theorem d_CX_changed_15 : decode b_CX_changed 15 = .ok (.if_icmp .ge 29, 3) := by decide +kernel
theorem d_CX_changed_18 : decode b_CX_changed 18 = .ok (.aload_n 0, 1) := by decide +kernel
theorem d_CX_changed_19 : decode b_CX_changed 19 = .ok (.getfield 75, 3) := by decide +kernel
theorem d_CX_changed_22 : decode b_CX_changed 22 = .ok (.iload_n 1, 1) := by decide +kernel
theorem d_CX_changed_23 : decode b_CX_changed 23 = .ok (.invokevirtual 116, 3) := by decide +kernel
theorem d_CX_changed_26 : decode b_CX_changed 26 = .ok (.checkcast 89, 3) := by decide +kernel
theorem d_CX_changed_29 : decode b_CX_changed 29 = .ok (.astore_n 2, 1) := by decide +kernel
theorem d_CX_changed_30 : decode b_CX_changed 30 = .ok (.aload_n 2, 1) := by decide +kernel
theorem d_CX_changed_31 : decode b_CX_changed 31 = .ok (.aload_n 2, 1) := by decide +kernel
theorem d_CX_changed_32 : decode b_CX_changed 32 = .ok (.getfield 120, 3) := by decide +kernel
theorem d_CX_changed_35 : decode b_CX_changed 35 = .ok (.putfield 123, 3) := by decide +kernel
theorem d_CX_changed_38 : decode b_CX_changed 38 = .ok (.iinc 1 1, 3) := by decide +kernel
theorem d_CX_changed_41 : decode b_CX_changed 41 = .ok (.goto (-34), 3) := by decide +kernel
theorem d_CX_changed_44 : decode b_CX_changed 44 = .ok (.return_, 1) := by decide +kernel
def lp_CX_changed_7 (Q : zS → Prop) : Nat → Int → zS → Prop
  | 0 => fun _ _ => False
  | n + 1 => fun v1 σ =>
    zc v1 ∧ zc (σ 40 3) ∧ ((σ 40 3 ≤ v1 →
      Q σ) ∧
     (¬ σ 40 3 ≤ v1 →
      0 ≤ v1 ∧ v1 < σ 40 3 ∧ 
      0 ≤ σ 44 v1 ∧ σ 44 v1 < σ 70 0 ∧ 
      ∀ y8, y8 = σ 44 v1 →
      ∀ σ9, σ9 = zup σ 7 y8 (σ 4 y8) →
      lp_CX_changed_7 Q n (v1 + 1) σ9))
def wp_CX_changed (Q : zS → Prop) (σ : zS) : Prop :=
  ∀ σ1, σ1 = zup σ 56 0 0 →
  ∃ u7, lp_CX_changed_7 Q u7 0 σ1
set_option maxHeartbeats 4000000 in
set_option maxRecDepth 100000 in
theorem wk_CX_changed_7 {E : zE} {D : va_G} {g : zG} {A : Nat → Prop} {ad : zA} {Q : zS → Prop} (C : zX E b_CX_changed R_CX D g { frames := 3, cells := 0, slots := 0, locals := 64 } 3) (R : zRt E none (zQv D g ad Q A) 0 0 A) (S : zSt g A (zst E) (zst E).heap) : ∀ (n : Nat) (v1 : Int) (σ : zS), lp_CX_changed_7 Q n v1 σ → zW E (zOK D A (zst E) g ad) 0 0 7 [(0, .ref (ad (0, 0))), (1, .int (zi v1))] [] σ := by
  intro n
  induction n with
  | zero =>
    intro v1 σ h
    exact h.elim
  | succ n ih =>
    intro v1 σ h
    refine z_iload_n C (pc := 7) d_CX_changed_7 1 rfl ?_
    refine z_aload_n C (pc := 8) d_CX_changed_8 0 rfl ?_
    refine x_getX (v := .ref (ad (1, 3))) C 4 (by decide) rfl wd_89 (pc := 9) d_CX_changed_9 ?_
    refine x_size (P := True) C S 3 (by decide) wd_146 ⟨Nat.le_of_ble_eq_true rfl, Nat.le_of_ble_eq_true rfl⟩ (Nat.le_of_ble_eq_true rfl) (pc := 12) d_CX_changed_12 ?_
    obtain ⟨hc2, hc3, h⟩ := h
    refine z_icmp_ge (tgt := 44) C (pc := 15) d_CX_changed_15 (by decide) hc2 hc3 h (fun h => ?_) (fun h => ?_)
    · exact z_vret C R (pc := 44) d_CX_changed_44 h
    · refine z_aload_n C (pc := 18) d_CX_changed_18 0 rfl ?_
      refine x_getX (v := .ref (ad (1, 3))) C 4 (by decide) rfl wd_89 (pc := 19) d_CX_changed_19 ?_
      refine z_iload_n C (pc := 22) d_CX_changed_22 1 rfl ?_
      obtain ⟨hc4, hc5, h⟩ := h
      refine x_lget C S 3 (by decide) hc4 hc5 wd_306 ⟨Nat.le_of_ble_eq_true rfl, Nat.le_of_ble_eq_true rfl⟩ (Nat.le_of_ble_eq_true rfl) (pc := 23) d_CX_changed_23 ?_
      obtain ⟨hc6, hc7, h⟩ := h
      refine x_castN C wd_83 (Or.inr ⟨hc6, hc7⟩) (pc := 26) d_CX_changed_26 ?_
      refine zNz h (fun y8 ey8 h => ?_)
      refine z_astoreZ_n (L' := [(2, zr ad 4 y8), (0, .ref (ad (0, 0))), (1, .int (zi v1))]) C (pc := 29) d_CX_changed_29 (by decide) rfl ?_
      refine z_aloadZ_n C (pc := 30) d_CX_changed_30 0 rfl ?_
      refine z_aloadZ_n C (pc := 31) d_CX_changed_31 0 rfl ?_
      refine x_getN (v := .int (zi (σ 4 y8))) C 4 (by decide) (by rw [ey8]; exact hc6) (by rw [ey8]; exact hc7) rfl wd_183 (pc := 32) d_CX_changed_32 ?_
      refine x_putN (v := σ 4 y8) C 7 (by decide) (by rw [ey8]; exact hc6) (by rw [ey8]; exact hc7) rfl ⟨rfl, rfl⟩ rfl wd_187 (pc := 35) d_CX_changed_35 ?_
      refine zN h (fun σ9 eσ9 h => ?_)
      refine z_iinc (L' := [(1, .int (zi (v1 + 1))), (2, zr ad 4 y8), (0, .ref (ad (0, 0)))]) C (pc := 38) d_CX_changed_38 2 rfl (by decide) rfl ?_
      refine z_goto (tgt := 7) C (pc := 41) d_CX_changed_41 (by decide) ?_
      refine z_sub [2, 0] rfl ?_
      exact ih _ _ h
set_option maxHeartbeats 4000000 in
set_option maxRecDepth 100000 in
theorem c_CX_changed (l : Launch) (D : va_G) (g : zG) (ad : zA) (Q : zS → Prop) (σ : zS) (h : wp_CX_changed Q σ) : zGv l y_CX_changed b_CX_changed 3 none { frames := 3, cells := 0, slots := 0, locals := 64 } D g ad σ [.ref (ad (0, 0))] Q := by
  unfold wp_CX_changed at h
  refine zN_of (by decide) (Nat.le_of_ble_eq_true rfl) (fun E C R S => ?_)
  have C : zX E b_CX_changed R_CX D g { frames := 3, cells := 0, slots := 0, locals := 64 } 3 := C
  refine z_sub (L' := [(0, .ref (ad (0, 0)))]) [0] rfl ?_
  refine z_aload_n C (pc := 0) d_CX_changed_0 0 rfl ?_
  refine z_iconst C (pc := 1) d_CX_changed_1 ?_
  refine x_putX C 8 56 rfl (by decide) (z_bool rfl (by decide)) rfl wd_93 (pc := 2) d_CX_changed_2 ?_
  refine zN h (fun σ1 eσ1 h => ?_)
  refine z_iconst C (pc := 5) d_CX_changed_5 ?_
  refine z_istore_n (L' := [(1, .int (zi 0)), (0, .ref (ad (0, 0)))]) C (pc := 6) d_CX_changed_6 (by decide) rfl ?_
  refine z_sub [1, 0] rfl ?_
  obtain ⟨n10, h⟩ := h
  exact wk_CX_changed_7 C R S n10 _ _ h
theorem d_CX_at_0 : decode b_CX_at 0 = .ok (.iload_n 1, 1) := by decide +kernel
theorem d_CX_at_1 : decode b_CX_at 1 = .ok (.ifCond .lt 14, 3) := by decide +kernel
theorem d_CX_at_4 : decode b_CX_at 4 = .ok (.iload_n 1, 1) := by decide +kernel
theorem d_CX_at_5 : decode b_CX_at 5 = .ok (.aload_n 0, 1) := by decide +kernel
theorem d_CX_at_6 : decode b_CX_at 6 = .ok (.getfield 69, 3) := by decide +kernel
theorem d_CX_at_9 : decode b_CX_at 9 = .ok (.invokevirtual 113, 3) := by decide +kernel
theorem d_CX_at_12 : decode b_CX_at 12 = .ok (.if_icmp .lt 7, 3) := by decide +kernel
theorem d_CX_at_15 : decode b_CX_at 15 = .ok (.aconst_null, 1) := by decide +kernel
theorem d_CX_at_16 : decode b_CX_at 16 = .ok (.goto 14, 3) := by decide +kernel
theorem d_CX_at_19 : decode b_CX_at 19 = .ok (.aload_n 0, 1) := by decide +kernel
theorem d_CX_at_20 : decode b_CX_at 20 = .ok (.getfield 69, 3) := by decide +kernel
theorem d_CX_at_23 : decode b_CX_at 23 = .ok (.iload_n 1, 1) := by decide +kernel
theorem d_CX_at_24 : decode b_CX_at 24 = .ok (.invokevirtual 116, 3) := by decide +kernel
theorem d_CX_at_27 : decode b_CX_at 27 = .ok (.checkcast 89, 3) := by decide +kernel
theorem d_CX_at_30 : decode b_CX_at 30 = .ok (.areturn, 1) := by decide +kernel
def wp_CX_at (Q : Int → zS → Prop) (v1 : Int) (σ : zS) : Prop :=
  zc v1 ∧ ((v1 < 0 →
    Q (-1) σ) ∧
   (¬ v1 < 0 →
    zc (σ 40 1) ∧ ((v1 < σ 40 1 →
      0 ≤ v1 ∧ v1 < σ 40 1 ∧ 
      0 ≤ σ 42 v1 ∧ σ 42 v1 < σ 70 0 ∧ 
      Q (σ 42 v1) σ) ∧
     (¬ v1 < σ 40 1 →
      Q (-1) σ))))
set_option maxHeartbeats 4000000 in
set_option maxRecDepth 100000 in
theorem c_CX_at (l : Launch) (D : va_G) (g : zG) (ad : zA) (v1 : Int) (Q : Int → zS → Prop) (σ : zS) (h : wp_CX_at Q v1 σ) : zGr 4 l y_CX_at b_CX_at 2 (some (.object "CellMapper$Node")) { frames := 3, cells := 0, slots := 0, locals := 64 } D g ad σ [.ref (ad (0, 0)), .int (zi v1)] Q := by
  unfold wp_CX_at at h
  refine zN_of (by decide) (Nat.le_of_ble_eq_true rfl) (fun E C R S => ?_)
  have C : zX E b_CX_at R_CX D g { frames := 3, cells := 0, slots := 0, locals := 64 } 2 := C
  refine z_sub (L' := [(0, .ref (ad (0, 0))), (1, .int (zi v1))]) [0, 1] rfl ?_
  refine z_iload_n C (pc := 0) d_CX_at_0 1 rfl ?_
  obtain ⟨hc1, h⟩ := h
  refine z_if_lt (tgt := 15) C (pc := 1) d_CX_at_1 (by decide) hc1 h (fun h => ?_) (fun h => ?_)
  · refine z_nullZ (ad := ad) 4 C (pc := 15) d_CX_at_15 ?_
    refine z_goto (tgt := 30) C (pc := 16) d_CX_at_16 (by decide) ?_
    exact z_aret C R (Or.inl ⟨_, rfl⟩) (pc := 30) d_CX_at_30 h
  · refine z_iload_n C (pc := 4) d_CX_at_4 1 rfl ?_
    refine z_aload_n C (pc := 5) d_CX_at_5 0 rfl ?_
    refine x_getX (v := .ref (ad (1, 1))) C 2 (by decide) rfl wd_87 (pc := 6) d_CX_at_6 ?_
    refine x_size (P := True) C S 1 (by decide) wd_146 ⟨Nat.le_of_ble_eq_true rfl, Nat.le_of_ble_eq_true rfl⟩ (Nat.le_of_ble_eq_true rfl) (pc := 9) d_CX_at_9 ?_
    obtain ⟨hc2, h⟩ := h
    refine z_icmp_lt (tgt := 19) C (pc := 12) d_CX_at_12 (by decide) hc1 hc2 h (fun h => ?_) (fun h => ?_)
    · refine z_aload_n C (pc := 19) d_CX_at_19 0 rfl ?_
      refine x_getX (v := .ref (ad (1, 1))) C 2 (by decide) rfl wd_87 (pc := 20) d_CX_at_20 ?_
      refine z_iload_n C (pc := 23) d_CX_at_23 1 rfl ?_
      obtain ⟨hc3, hc4, h⟩ := h
      refine x_lget C S 1 (by decide) hc3 hc4 wd_306 ⟨Nat.le_of_ble_eq_true rfl, Nat.le_of_ble_eq_true rfl⟩ (Nat.le_of_ble_eq_true rfl) (pc := 24) d_CX_at_24 ?_
      obtain ⟨hc5, hc6, h⟩ := h
      refine x_castN C wd_83 (Or.inr ⟨hc5, hc6⟩) (pc := 27) d_CX_at_27 ?_
      exact z_aret C R (Or.inl ⟨_, rfl⟩) (pc := 30) d_CX_at_30 h
    · refine z_nullZ (ad := ad) 4 C (pc := 15) d_CX_at_15 ?_
      refine z_goto (tgt := 30) C (pc := 16) d_CX_at_16 (by decide) ?_
      exact z_aret C R (Or.inl ⟨_, rfl⟩) (pc := 30) d_CX_at_30 h
theorem d_CX_drive_0 : decode b_CX_drive 0 = .ok (.aload_n 0, 1) := by decide +kernel
theorem d_CX_drive_1 : decode b_CX_drive 1 = .ok (.iload_n 1, 1) := by decide +kernel
theorem d_CX_drive_2 : decode b_CX_drive 2 = .ok (.invokevirtual 152, 3) := by decide +kernel
theorem d_CX_drive_5 : decode b_CX_drive 5 = .ok (.astore_n 3, 1) := by decide +kernel
theorem d_CX_drive_6 : decode b_CX_drive 6 = .ok (.aload_n 0, 1) := by decide +kernel
theorem d_CX_drive_7 : decode b_CX_drive 7 = .ok (.iload_n 2, 1) := by decide +kernel
theorem d_CX_drive_8 : decode b_CX_drive 8 = .ok (.invokevirtual 152, 3) := by decide +kernel
theorem d_CX_drive_11 : decode b_CX_drive 11 = .ok (.astore 4, 2) := by decide +kernel
theorem d_CX_drive_13 : decode b_CX_drive 13 = .ok (.aload_n 3, 1) := by decide +kernel
theorem d_CX_drive_14 : decode b_CX_drive 14 = .ok (.ifnull 26, 3) := by decide +kernel
theorem d_CX_drive_17 : decode b_CX_drive 17 = .ok (.aload_n 3, 1) := by decide +kernel
theorem d_CX_drive_18 : decode b_CX_drive 18 = .ok (.getfield 156, 3) := by decide +kernel
theorem d_CX_drive_21 : decode b_CX_drive 21 = .ok (.getstatic 146, 3) := by decide +kernel
theorem d_CX_drive_24 : decode b_CX_drive 24 = .ok (.if_acmp .ne 16, 3) := by decide +kernel
theorem d_CX_drive_27 : decode b_CX_drive 27 = .ok (.aload_n 3, 1) := by decide +kernel
theorem d_CX_drive_28 : decode b_CX_drive 28 = .ok (.getfield 149, 3) := by decide +kernel
theorem d_CX_drive_31 : decode b_CX_drive 31 = .ok (.iload_n 1, 1) := by decide +kernel
theorem d_CX_drive_32 : decode b_CX_drive 32 = .ok (.if_icmp .ne 8, 3) := by decide +kernel
theorem d_CX_drive_35 : decode b_CX_drive 35 = .ok (.aload 4, 2) := by decide +kernel
theorem d_CX_drive_37 : decode b_CX_drive 37 = .ok (.ifnonnull 5, 3) := by decide +kernel
theorem d_CX_drive_40 : decode b_CX_drive 40 = .ok (.iconst 0, 1) := by decide +kernel
theorem d_CX_drive_41 : decode b_CX_drive 41 = .ok (.ireturn, 1) := by decide +kernel
theorem d_CX_drive_42 : decode b_CX_drive 42 = .ok (.aload_n 3, 1) := by decide +kernel
theorem d_CX_drive_43 : decode b_CX_drive 43 = .ok (.aload 4, 2) := by decide +kernel
theorem d_CX_drive_45 : decode b_CX_drive 45 = .ok (.putfield 159, 3) := by decide +kernel
theorem d_CX_drive_48 : decode b_CX_drive 48 = .ok (.aload_n 0, 1) := by decide +kernel
theorem d_CX_drive_49 : decode b_CX_drive 49 = .ok (.invokevirtual 130, 3) := by decide +kernel
theorem d_CX_drive_52 : decode b_CX_drive 52 = .ok (.iconst 1, 1) := by decide +kernel
theorem d_CX_drive_53 : decode b_CX_drive 53 = .ok (.ireturn, 1) := by decide +kernel
def wp_CX_drive (Q : Int → zS → Prop) (v1 : Int) (v2 : Int) (σ : zS) : Prop :=
  wp_CX_at (fun r2 σ1 =>
    wp_CX_at (fun r4 σ3 =>
      ((r2 < 0 →
        Q 0 σ3) ∧
       (¬ r2 < 0 →
        0 ≤ r2 ∧ r2 < σ3 70 0 ∧ 
        0 ≤ σ3 1 r2 ∧ σ3 1 r2 < 4 ∧ ((σ3 1 r2 = 1 →
          zc (σ3 8 r2) ∧ zc v1 ∧ ((σ3 8 r2 = v1 →
            ((r4 < 0 →
              Q 0 σ3) ∧
             (¬ r4 < 0 →
              ∀ σ11, σ11 = zup σ3 5 r2 r4 →
              wp_CX_changed (fun σ12 =>
                Q 1 σ12) σ11))) ∧
           (¬ σ3 8 r2 = v1 →
            Q 0 σ3))) ∧
         (¬ σ3 1 r2 = 1 →
          Q 0 σ3))))) v2 σ1) v1 σ
set_option maxHeartbeats 4000000 in
set_option maxRecDepth 100000 in
theorem c_CX_drive (l : Launch) (D : va_G) (g : zG) (ad : zA) (v1 : Int) (v2 : Int) (Q : Int → zS → Prop) (σ : zS) (h : wp_CX_drive Q v1 v2 σ) : zGi l y_CX_drive b_CX_drive 5 (some .boolean) { frames := 4, cells := 0, slots := 0, locals := 86 } D g ad σ [.ref (ad (0, 0)), .int (zi v1), .int (zi v2)] Q := by
  unfold wp_CX_drive at h
  refine zN_of (by decide) (Nat.le_of_ble_eq_true rfl) (fun E C R S => ?_)
  have C : zX E b_CX_drive R_CX D g { frames := 4, cells := 0, slots := 0, locals := 86 } 5 := C
  refine z_sub (L' := [(0, .ref (ad (0, 0))), (1, .int (zi v1)), (2, .int (zi v2))]) [0, 1, 2] rfl ?_
  refine z_aload_n C (pc := 0) d_CX_drive_0 0 rfl ?_
  refine z_iload_n C (pc := 1) d_CX_drive_1 1 rfl ?_
  refine x_callVr (As := [.int (zi v1)]) (st := []) C S fy_CX_at (0, 0) (zids_fix zfix_0) rfl rfl wd_329 (pc := 2) d_CX_drive_2 ⟨rfl, rfl, Nat.le_of_ble_eq_true rfl, Nat.le_of_ble_eq_true rfl⟩ rfl rfl (Nat.le_of_ble_eq_true rfl) h (c_CX_at (zln E) D g ad _ _ _) (fun r2 σ1 h => ?_)
  refine z_astoreZ_n (L' := [(3, zr ad 4 r2), (0, .ref (ad (0, 0))), (1, .int (zi v1)), (2, .int (zi v2))]) C (pc := 5) d_CX_drive_5 (by decide) rfl ?_
  refine z_aload_n C (pc := 6) d_CX_drive_6 1 rfl ?_
  refine z_iload_n C (pc := 7) d_CX_drive_7 3 rfl ?_
  refine x_callVr (As := [.int (zi v2)]) (st := []) C S fy_CX_at (0, 0) (zids_fix zfix_0) rfl rfl wd_329 (pc := 8) d_CX_drive_8 ⟨rfl, rfl, Nat.le_of_ble_eq_true rfl, Nat.le_of_ble_eq_true rfl⟩ rfl rfl (Nat.le_of_ble_eq_true rfl) h (c_CX_at (zln E) D g ad _ _ _) (fun r4 σ3 h => ?_)
  refine z_astoreZ (L' := [(4, zr ad 4 r4), (3, zr ad 4 r2), (0, .ref (ad (0, 0))), (1, .int (zi v1)), (2, .int (zi v2))]) C (pc := 11) d_CX_drive_11 (by decide) (congrArg (List.cons _) (flt_eq (j := 4) rfl (List.forall_mem_singleton.mpr (zr_cat _ _ _)) rfl)) ?_
  refine z_aloadZ_n C (pc := 13) d_CX_drive_13 1 rfl ?_
  refine z_ifnull (tgt := 40) C (pc := 14) d_CX_drive_14 (by decide) h (fun h => ?_) (fun h => ?_)
  · refine z_iconst C (pc := 40) d_CX_drive_40 ?_
    exact z_zret C R (pc := 41) d_CX_drive_41 (by decide) h
  · refine z_aloadZ_n C (pc := 17) d_CX_drive_17 1 rfl ?_
    obtain ⟨hc5, hc6, h⟩ := h
    refine x_getN (v := kv g (σ3 1 r2)) C 1 (by decide) hc5 hc6 rfl wd_172 (pc := 18) d_CX_drive_18 ?_
    refine x_gets C S 1 (by decide) (by decide) rfl wd_324 (pc := 21) d_CX_drive_21 ?_
    obtain ⟨hc7, hc8, h⟩ := h
    refine x_acmpK_ne (tgt := 40) C S (pc := 24) d_CX_drive_24 (by decide) hc7 hc8 (by decide) (by decide) h (fun h => ?_) (fun h => ?_)
    · refine z_iconst C (pc := 40) d_CX_drive_40 ?_
      exact z_zret C R (pc := 41) d_CX_drive_41 (by decide) h
    · refine z_aloadZ_n C (pc := 27) d_CX_drive_27 1 rfl ?_
      refine x_getN (v := .int (zi (σ3 8 r2))) C 8 (by decide) hc5 hc6 rfl wd_188 (pc := 28) d_CX_drive_28 ?_
      refine z_iload_n C (pc := 31) d_CX_drive_31 3 rfl ?_
      obtain ⟨hc9, hc10, h⟩ := h
      refine z_icmp_ne (tgt := 40) C (pc := 32) d_CX_drive_32 (by decide) hc9 hc10 h (fun h => ?_) (fun h => ?_)
      · refine z_iconst C (pc := 40) d_CX_drive_40 ?_
        exact z_zret C R (pc := 41) d_CX_drive_41 (by decide) h
      · refine z_aloadZ C (pc := 35) d_CX_drive_35 0 rfl ?_
        refine z_ifnonnull (tgt := 42) C (pc := 37) d_CX_drive_37 (by decide) h (fun h => ?_) (fun h => ?_)
        · refine z_aloadZ_n C (pc := 42) d_CX_drive_42 1 rfl ?_
          refine z_aloadZ C (pc := 43) d_CX_drive_43 0 rfl ?_
          refine x_putN (v := r4) C 5 (by decide) hc5 hc6 rfl (zr_fit _ _ _ _) rfl wd_184 (pc := 45) d_CX_drive_45 ?_
          refine zN h (fun σ11 eσ11 h => ?_)
          refine z_aload_n C (pc := 48) d_CX_drive_48 2 rfl ?_
          refine x_callVv (As := []) (st := []) C S fy_CX_changed (0, 0) (zids_fix zfix_0) rfl rfl wd_302 (pc := 49) d_CX_drive_49 ⟨rfl, rfl, Nat.le_of_ble_eq_true rfl, Nat.le_of_ble_eq_true rfl⟩ rfl rfl (Nat.le_of_ble_eq_true rfl) h (c_CX_changed (zln E) D g ad _ _) (fun σ12 h => ?_)
          refine z_iconst C (pc := 52) d_CX_drive_52 ?_
          exact z_zret C R (pc := 53) d_CX_drive_53 (by decide) h
        · refine z_iconst C (pc := 40) d_CX_drive_40 ?_
          exact z_zret C R (pc := 41) d_CX_drive_41 (by decide) h
theorem d_DG_begin_0 : decode b_DG_begin 0 = .ok (.aload_n 0, 1) := by decide +kernel
theorem d_DG_begin_1 : decode b_DG_begin 1 = .ok (.iload_n 1, 1) := by decide +kernel
theorem d_DG_begin_2 : decode b_DG_begin 2 = .ok (.putfield 7, 3) := by decide +kernel
theorem d_DG_begin_5 : decode b_DG_begin 5 = .ok (.aload_n 0, 1) := by decide +kernel
theorem d_DG_begin_6 : decode b_DG_begin 6 = .ok (.iconst 0, 1) := by decide +kernel
theorem d_DG_begin_7 : decode b_DG_begin 7 = .ok (.putfield 13, 3) := by decide +kernel
theorem d_DG_begin_10 : decode b_DG_begin 10 = .ok (.return_, 1) := by decide +kernel
def wp_DG_begin (Q : zS → Prop) (v1 : Int) (σ : zS) : Prop :=
  ∀ σ1, σ1 = zup σ 61 0 v1 →
  ∀ σ2, σ2 = zup σ1 62 0 0 →
  Q σ2
set_option maxHeartbeats 4000000 in
set_option maxRecDepth 100000 in
theorem c_DG_begin (l : Launch) (D : va_G) (g : zG) (ad : zA) (v1 : Int) (Q : zS → Prop) (σ : zS) (h : wp_DG_begin Q v1 σ) : zGv l y_DG_begin b_DG_begin 2 none { frames := 0, cells := 0, slots := 0, locals := 0 } D g ad σ [.ref (ad (0, 2)), .int (zi v1)] Q := by
  unfold wp_DG_begin at h
  refine zN_of (by decide) (Nat.le_of_ble_eq_true rfl) (fun E C R S => ?_)
  have C : zX E b_DG_begin R_DG D g { frames := 0, cells := 0, slots := 0, locals := 0 } 2 := C
  refine z_sub (L' := [(0, .ref (ad (0, 2))), (1, .int (zi v1))]) [0, 1] rfl ?_
  refine z_aload_n C (pc := 0) d_DG_begin_0 0 rfl ?_
  refine z_iload_n C (pc := 1) d_DG_begin_1 1 rfl ?_
  refine x_putD C 0 (by decide) wd_75 (pc := 2) d_DG_begin_2 ?_
  refine zN h (fun σ1 eσ1 h => ?_)
  refine z_aload_n C (pc := 5) d_DG_begin_5 0 rfl ?_
  refine z_iconst C (pc := 6) d_DG_begin_6 ?_
  refine x_putD C 1 (by decide) wd_76 (pc := 7) d_DG_begin_7 ?_
  refine zN h (fun σ2 eσ2 h => ?_)
  exact z_vret C R (pc := 10) d_DG_begin_10 h
theorem d_CX_nodes_0 : decode b_CX_nodes 0 = .ok (.aload_n 0, 1) := by decide +kernel
theorem d_CX_nodes_1 : decode b_CX_nodes 1 = .ok (.getfield 65, 3) := by decide +kernel
theorem d_CX_nodes_4 : decode b_CX_nodes 4 = .ok (.invokevirtual 113, 3) := by decide +kernel
theorem d_CX_nodes_7 : decode b_CX_nodes 7 = .ok (.ireturn, 1) := by decide +kernel
def wp_CX_nodes (Q : Int → zS → Prop) (σ : zS) : Prop :=
  Q (σ 40 0) σ
set_option maxHeartbeats 4000000 in
set_option maxRecDepth 100000 in
theorem c_CX_nodes (l : Launch) (D : va_G) (g : zG) (ad : zA) (Q : Int → zS → Prop) (σ : zS) (h : wp_CX_nodes Q σ) : zGi l y_CX_nodes b_CX_nodes 1 (some .int) { frames := 1, cells := 0, slots := 0, locals := 20 } D g ad σ [.ref (ad (0, 0))] Q := by
  unfold wp_CX_nodes at h
  refine zN_of (by decide) (Nat.le_of_ble_eq_true rfl) (fun E C R S => ?_)
  have C : zX E b_CX_nodes R_CX D g { frames := 1, cells := 0, slots := 0, locals := 20 } 1 := C
  refine z_sub (L' := [(0, .ref (ad (0, 0)))]) [0] rfl ?_
  refine z_aload_n C (pc := 0) d_CX_nodes_0 0 rfl ?_
  refine x_getX (v := .ref (ad (1, 0))) C 1 (by decide) rfl wd_86 (pc := 1) d_CX_nodes_1 ?_
  refine x_size (P := True) C S 0 (by decide) wd_146 ⟨Nat.le_of_ble_eq_true rfl, Nat.le_of_ble_eq_true rfl⟩ (Nat.le_of_ble_eq_true rfl) (pc := 4) d_CX_nodes_4 ?_
  exact z_iret C R (pc := 7) d_CX_nodes_7 h
theorem d_CX_nodeOf_0 : decode b_CX_nodeOf 0 = .ok (.aload_n 0, 1) := by decide +kernel
theorem d_CX_nodeOf_1 : decode b_CX_nodeOf 1 = .ok (.iload_n 1, 1) := by decide +kernel
theorem d_CX_nodeOf_2 : decode b_CX_nodeOf 2 = .ok (.invokevirtual 152, 3) := by decide +kernel
theorem d_CX_nodeOf_5 : decode b_CX_nodeOf 5 = .ok (.astore_n 2, 1) := by decide +kernel
theorem d_CX_nodeOf_6 : decode b_CX_nodeOf 6 = .ok (.aload_n 2, 1) := by decide +kernel
theorem d_CX_nodeOf_7 : decode b_CX_nodeOf 7 = .ok (.ifnonnull 7, 3) := by decide +kernel
theorem d_CX_nodeOf_10 : decode b_CX_nodeOf 10 = .ok (.iconst (-1), 1) := by decide +kernel
theorem d_CX_nodeOf_11 : decode b_CX_nodeOf 11 = .ok (.goto 7, 3) := by decide +kernel
theorem d_CX_nodeOf_14 : decode b_CX_nodeOf 14 = .ok (.aload_n 2, 1) := by decide +kernel
theorem d_CX_nodeOf_15 : decode b_CX_nodeOf 15 = .ok (.getfield 175, 3) := by decide +kernel
theorem d_CX_nodeOf_18 : decode b_CX_nodeOf 18 = .ok (.ireturn, 1) := by decide +kernel
def wp_CX_nodeOf (Q : Int → zS → Prop) (v1 : Int) (σ : zS) : Prop :=
  wp_CX_at (fun r2 σ1 =>
    ((r2 < 0 →
      Q (-1) σ1) ∧
     (¬ r2 < 0 →
      0 ≤ r2 ∧ r2 < σ1 70 0 ∧ 
      Q (σ1 0 r2) σ1))) v1 σ
set_option maxHeartbeats 4000000 in
set_option maxRecDepth 100000 in
theorem c_CX_nodeOf (l : Launch) (D : va_G) (g : zG) (ad : zA) (v1 : Int) (Q : Int → zS → Prop) (σ : zS) (h : wp_CX_nodeOf Q v1 σ) : zGi l y_CX_nodeOf b_CX_nodeOf 3 (some .int) { frames := 4, cells := 0, slots := 0, locals := 85 } D g ad σ [.ref (ad (0, 0)), .int (zi v1)] Q := by
  unfold wp_CX_nodeOf at h
  refine zN_of (by decide) (Nat.le_of_ble_eq_true rfl) (fun E C R S => ?_)
  have C : zX E b_CX_nodeOf R_CX D g { frames := 4, cells := 0, slots := 0, locals := 85 } 3 := C
  refine z_sub (L' := [(0, .ref (ad (0, 0))), (1, .int (zi v1))]) [0, 1] rfl ?_
  refine z_aload_n C (pc := 0) d_CX_nodeOf_0 0 rfl ?_
  refine z_iload_n C (pc := 1) d_CX_nodeOf_1 1 rfl ?_
  refine x_callVr (As := [.int (zi v1)]) (st := []) C S fy_CX_at (0, 0) (zids_fix zfix_0) rfl rfl wd_329 (pc := 2) d_CX_nodeOf_2 ⟨rfl, rfl, Nat.le_of_ble_eq_true rfl, Nat.le_of_ble_eq_true rfl⟩ rfl rfl (Nat.le_of_ble_eq_true rfl) h (c_CX_at (zln E) D g ad _ _ _) (fun r2 σ1 h => ?_)
  refine z_astoreZ_n (L' := [(2, zr ad 4 r2), (0, .ref (ad (0, 0))), (1, .int (zi v1))]) C (pc := 5) d_CX_nodeOf_5 (by decide) rfl ?_
  refine z_aloadZ_n C (pc := 6) d_CX_nodeOf_6 0 rfl ?_
  refine z_ifnonnull (tgt := 14) C (pc := 7) d_CX_nodeOf_7 (by decide) h (fun h => ?_) (fun h => ?_)
  · refine z_aloadZ_n C (pc := 14) d_CX_nodeOf_14 0 rfl ?_
    obtain ⟨hc3, hc4, h⟩ := h
    refine x_getN (v := .int (zi (σ1 0 r2))) C 0 (by decide) hc3 hc4 rfl wd_167 (pc := 15) d_CX_nodeOf_15 ?_
    exact z_iret C R (pc := 18) d_CX_nodeOf_18 h
  · refine z_iconst C (pc := 10) d_CX_nodeOf_10 ?_
    refine z_goto (tgt := 18) C (pc := 11) d_CX_nodeOf_11 (by decide) ?_
    exact z_iret C R (pc := 18) d_CX_nodeOf_18 h
theorem d_CX_part_0 : decode b_CX_part 0 = .ok (.iload_n 1, 1) := by decide +kernel
theorem d_CX_part_1 : decode b_CX_part 1 = .ok (.ifCond .lt 14, 3) := by decide +kernel
theorem d_CX_part_4 : decode b_CX_part 4 = .ok (.iload_n 1, 1) := by decide +kernel
theorem d_CX_part_5 : decode b_CX_part 5 = .ok (.aload_n 0, 1) := by decide +kernel
theorem d_CX_part_6 : decode b_CX_part 6 = .ok (.getfield 65, 3) := by decide +kernel
theorem d_CX_part_9 : decode b_CX_part 9 = .ok (.invokevirtual 113, 3) := by decide +kernel
theorem d_CX_part_12 : decode b_CX_part 12 = .ok (.if_icmp .lt 5, 3) := by decide +kernel
theorem d_CX_part_15 : decode b_CX_part 15 = .ok (.iconst (-1), 1) := by decide +kernel
theorem d_CX_part_16 : decode b_CX_part 16 = .ok (.ireturn, 1) := by decide +kernel
theorem d_CX_part_17 : decode b_CX_part 17 = .ok (.aload_n 0, 1) := by decide +kernel
theorem d_CX_part_18 : decode b_CX_part 18 = .ok (.getfield 65, 3) := by decide +kernel
theorem d_CX_part_21 : decode b_CX_part 21 = .ok (.iload_n 1, 1) := by decide +kernel
theorem d_CX_part_22 : decode b_CX_part 22 = .ok (.invokevirtual 116, 3) := by decide +kernel
theorem d_CX_part_25 : decode b_CX_part 25 = .ok (.checkcast 89, 3) := by decide +kernel
theorem d_CX_part_28 : decode b_CX_part 28 = .ok (.astore_n 3, 1) := by decide +kernel
theorem d_CX_part_29 : decode b_CX_part 29 = .ok (.iload_n 2, 1) := by decide +kernel
theorem d_CX_part_30 : decode b_CX_part 30 = .ok (.ifCond .ne 10, 3) := by decide +kernel
theorem d_CX_part_33 : decode b_CX_part 33 = .ok (.aload_n 3, 1) := by decide +kernel
theorem d_CX_part_34 : decode b_CX_part 34 = .ok (.getfield 178, 3) := by decide +kernel
theorem d_CX_part_37 : decode b_CX_part 37 = .ok (.goto 16, 3) := by decide +kernel
theorem d_CX_part_40 : decode b_CX_part 40 = .ok (.iload_n 2, 1) := by decide +kernel
theorem d_CX_part_41 : decode b_CX_part 41 = .ok (.iconst 1, 1) := by decide +kernel
theorem d_CX_part_42 : decode b_CX_part 42 = .ok (.if_icmp .ne 10, 3) := by decide +kernel
theorem d_CX_part_45 : decode b_CX_part 45 = .ok (.aload_n 3, 1) := by decide +kernel
theorem d_CX_part_46 : decode b_CX_part 46 = .ok (.getfield 181, 3) := by decide +kernel
theorem d_CX_part_49 : decode b_CX_part 49 = .ok (.goto 4, 3) := by decide +kernel
theorem d_CX_part_52 : decode b_CX_part 52 = .ok (.aconst_null, 1) := by decide +kernel
theorem d_CX_part_53 : decode b_CX_part 53 = .ok (.astore 4, 2) := by decide +kernel
theorem d_CX_part_55 : decode b_CX_part 55 = .ok (.aload 4, 2) := by decide +kernel
theorem d_CX_part_57 : decode b_CX_part 57 = .ok (.ifnonnull 7, 3) := by decide +kernel
theorem d_CX_part_60 : decode b_CX_part 60 = .ok (.iconst (-1), 1) := by decide +kernel
theorem d_CX_part_61 : decode b_CX_part 61 = .ok (.goto 8, 3) := by decide +kernel
theorem d_CX_part_64 : decode b_CX_part 64 = .ok (.aload 4, 2) := by decide +kernel
theorem d_CX_part_66 : decode b_CX_part 66 = .ok (.getfield 175, 3) := by decide +kernel
theorem d_CX_part_69 : decode b_CX_part 69 = .ok (.ireturn, 1) := by decide +kernel
def bk_CX_part_53 (Q : Int → zS → Prop) (z0 : Int) (σ : zS) : Prop :=
  ((z0 < 0 →
    Q (-1) σ) ∧
   (¬ z0 < 0 →
    0 ≤ z0 ∧ z0 < σ 70 0 ∧ 
    Q (σ 0 z0) σ))
def wp_CX_part (Q : Int → zS → Prop) (v1 : Int) (v2 : Int) (σ : zS) : Prop :=
  zc v1 ∧ ((v1 < 0 →
    Q (-1) σ) ∧
   (¬ v1 < 0 →
    zc (σ 40 0) ∧ ((v1 < σ 40 0 →
      0 ≤ v1 ∧ v1 < σ 40 0 ∧ 
      0 ≤ σ 41 v1 ∧ σ 41 v1 < σ 70 0 ∧ 
      ∀ y7, y7 = σ 41 v1 →
      zc v2 ∧ ((v2 = 0 →
        bk_CX_part_53 Q (σ 2 y7) σ) ∧
       (¬ v2 = 0 →
        ((v2 = 1 →
          bk_CX_part_53 Q (σ 3 y7) σ) ∧
         (¬ v2 = 1 →
          bk_CX_part_53 Q (-1) σ))))) ∧
     (¬ v1 < σ 40 0 →
      Q (-1) σ))))
set_option maxHeartbeats 4000000 in
set_option maxRecDepth 100000 in
theorem wk_CX_part_53 {E : zE} {D : va_G} {g : zG} {A : Nat → Prop} {ad : zA} {Q : Int → zS → Prop} (C : zX E b_CX_part R_CX D g { frames := 3, cells := 0, slots := 0, locals := 64 } 5) (R : zRt E (some .int) (zQi D g ad Q A) 0 0 A) (S : zSt g A (zst E) (zst E).heap) (z0 : Int) (σ : zS) (h : bk_CX_part_53 Q z0 σ) : zW E (zOK D A (zst E) g ad) 0 0 53 [] [zr ad 4 z0] σ := by
  unfold bk_CX_part_53 at h
  refine z_astoreZ (L' := [(4, zr ad 4 z0)]) C (pc := 53) d_CX_part_53 (by decide) rfl ?_
  refine z_aloadZ C (pc := 55) d_CX_part_55 0 rfl ?_
  refine z_ifnonnull (tgt := 64) C (pc := 57) d_CX_part_57 (by decide) h (fun h => ?_) (fun h => ?_)
  · refine z_aloadZ C (pc := 64) d_CX_part_64 0 rfl ?_
    obtain ⟨hc9, hc10, h⟩ := h
    refine x_getN (v := .int (zi (σ 0 z0))) C 0 (by decide) hc9 hc10 rfl wd_167 (pc := 66) d_CX_part_66 ?_
    exact z_iret C R (pc := 69) d_CX_part_69 h
  · refine z_iconst C (pc := 60) d_CX_part_60 ?_
    refine z_goto (tgt := 69) C (pc := 61) d_CX_part_61 (by decide) ?_
    exact z_iret C R (pc := 69) d_CX_part_69 h
set_option maxHeartbeats 4000000 in
set_option maxRecDepth 100000 in
theorem c_CX_part (l : Launch) (D : va_G) (g : zG) (ad : zA) (v1 : Int) (v2 : Int) (Q : Int → zS → Prop) (σ : zS) (h : wp_CX_part Q v1 v2 σ) : zGi l y_CX_part b_CX_part 5 (some .int) { frames := 3, cells := 0, slots := 0, locals := 64 } D g ad σ [.ref (ad (0, 0)), .int (zi v1), .int (zi v2)] Q := by
  unfold wp_CX_part at h
  refine zN_of (by decide) (Nat.le_of_ble_eq_true rfl) (fun E C R S => ?_)
  have C : zX E b_CX_part R_CX D g { frames := 3, cells := 0, slots := 0, locals := 64 } 5 := C
  refine z_sub (L' := [(0, .ref (ad (0, 0))), (1, .int (zi v1)), (2, .int (zi v2))]) [0, 1, 2] rfl ?_
  refine z_iload_n C (pc := 0) d_CX_part_0 1 rfl ?_
  obtain ⟨hc1, h⟩ := h
  refine z_if_lt (tgt := 15) C (pc := 1) d_CX_part_1 (by decide) hc1 h (fun h => ?_) (fun h => ?_)
  · refine z_iconst C (pc := 15) d_CX_part_15 ?_
    exact z_iret C R (pc := 16) d_CX_part_16 h
  · refine z_iload_n C (pc := 4) d_CX_part_4 1 rfl ?_
    refine z_aload_n C (pc := 5) d_CX_part_5 0 rfl ?_
    refine x_getX (v := .ref (ad (1, 0))) C 1 (by decide) rfl wd_86 (pc := 6) d_CX_part_6 ?_
    refine x_size (P := True) C S 0 (by decide) wd_146 ⟨Nat.le_of_ble_eq_true rfl, Nat.le_of_ble_eq_true rfl⟩ (Nat.le_of_ble_eq_true rfl) (pc := 9) d_CX_part_9 ?_
    obtain ⟨hc2, h⟩ := h
    refine z_icmp_lt (tgt := 17) C (pc := 12) d_CX_part_12 (by decide) hc1 hc2 h (fun h => ?_) (fun h => ?_)
    · refine z_aload_n C (pc := 17) d_CX_part_17 0 rfl ?_
      refine x_getX (v := .ref (ad (1, 0))) C 1 (by decide) rfl wd_86 (pc := 18) d_CX_part_18 ?_
      refine z_iload_n C (pc := 21) d_CX_part_21 1 rfl ?_
      obtain ⟨hc3, hc4, h⟩ := h
      refine x_lget C S 0 (by decide) hc3 hc4 wd_306 ⟨Nat.le_of_ble_eq_true rfl, Nat.le_of_ble_eq_true rfl⟩ (Nat.le_of_ble_eq_true rfl) (pc := 22) d_CX_part_22 ?_
      obtain ⟨hc5, hc6, h⟩ := h
      refine x_castN C wd_83 (Or.inr ⟨hc5, hc6⟩) (pc := 25) d_CX_part_25 ?_
      refine zNz h (fun y7 ey7 h => ?_)
      refine z_astoreZ_n (L' := [(3, zr ad 4 y7), (0, .ref (ad (0, 0))), (1, .int (zi v1)), (2, .int (zi v2))]) C (pc := 28) d_CX_part_28 (by decide) rfl ?_
      refine z_iload_n C (pc := 29) d_CX_part_29 3 rfl ?_
      obtain ⟨hc8, h⟩ := h
      refine z_if_ne (tgt := 40) C (pc := 30) d_CX_part_30 (by decide) hc8 h (fun h => ?_) (fun h => ?_)
      · refine z_iload_n C (pc := 40) d_CX_part_40 3 rfl ?_
        refine z_iconst C (pc := 41) d_CX_part_41 ?_
        refine z_icmp_ne (tgt := 52) C (pc := 42) d_CX_part_42 (by decide) hc8 (by decide) h (fun h => ?_) (fun h => ?_)
        · refine z_nullZ (ad := ad) 4 C (pc := 52) d_CX_part_52 ?_
          refine z_sub [] rfl ?_
          exact wk_CX_part_53 C R S _ _ h
        · refine z_aloadZ_n C (pc := 45) d_CX_part_45 0 rfl ?_
          refine x_getN (v := zr ad 4 (σ 3 y7)) C 3 (by decide) (by rw [ey7]; exact hc5) (by rw [ey7]; exact hc6) rfl wd_181 (pc := 46) d_CX_part_46 ?_
          refine z_goto (tgt := 53) C (pc := 49) d_CX_part_49 (by decide) ?_
          refine z_sub [] rfl ?_
          exact wk_CX_part_53 C R S _ _ h
      · refine z_aloadZ_n C (pc := 33) d_CX_part_33 0 rfl ?_
        refine x_getN (v := zr ad 4 (σ 2 y7)) C 2 (by decide) (by rw [ey7]; exact hc5) (by rw [ey7]; exact hc6) rfl wd_177 (pc := 34) d_CX_part_34 ?_
        refine z_goto (tgt := 53) C (pc := 37) d_CX_part_37 (by decide) ?_
        refine z_sub [] rfl ?_
        exact wk_CX_part_53 C R S _ _ h
    · refine z_iconst C (pc := 15) d_CX_part_15 ?_
      exact z_iret C R (pc := 16) d_CX_part_16 h
theorem d_CX_provided_0 : decode b_CX_provided 0 = .ok (.iconst 0, 1) := by decide +kernel
theorem d_CX_provided_1 : decode b_CX_provided 1 = .ok (.istore_n 2, 1) := by decide +kernel
theorem d_CX_provided_2 : decode b_CX_provided 2 = .ok (.iload_n 2, 1) := by decide +kernel
theorem d_CX_provided_3 : decode b_CX_provided 3 = .ok (.aload_n 0, 1) := by decide +kernel
theorem d_CX_provided_4 : decode b_CX_provided 4 = .ok (.getfield 81, 3) := by decide +kernel
theorem d_CX_provided_7 : decode b_CX_provided 7 = .ok (.invokevirtual 113, 3) := by decide +kernel
theorem d_CX_provided_10 : decode b_CX_provided 10 = .ok (.if_icmp .ge 31, 3) := by decide +kernel
theorem d_CX_provided_13 : decode b_CX_provided 13 = .ok (.aload_n 0, 1) := by decide +kernel
theorem d_CX_provided_14 : decode b_CX_provided 14 = .ok (.getfield 81, 3) := by decide +kernel
theorem d_CX_provided_17 : decode b_CX_provided 17 = .ok (.iload_n 2, 1) := by decide +kernel
theorem d_CX_provided_18 : decode b_CX_provided 18 = .ok (.invokevirtual 116, 3) := by decide +kernel
theorem d_CX_provided_21 : decode b_CX_provided 21 = .ok (.checkcast 170, 3) := by decide +kernel
theorem d_CX_provided_24 : decode b_CX_provided 24 = .ok (.astore_n 3, 1) := by decide +kernel
theorem d_CX_provided_25 : decode b_CX_provided 25 = .ok (.aload_n 3, 1) := by decide +kernel
theorem d_CX_provided_26 : decode b_CX_provided 26 = .ok (.getfield 184, 3) := by decide +kernel
theorem d_CX_provided_29 : decode b_CX_provided 29 = .ok (.iload_n 1, 1) := by decide +kernel
theorem d_CX_provided_30 : decode b_CX_provided 30 = .ok (.if_icmp .ne 5, 3) := by decide +kernel
theorem d_CX_provided_33 : decode b_CX_provided 33 = .ok (.iconst 1, 1) := by decide +kernel
theorem d_CX_provided_34 : decode b_CX_provided 34 = .ok (.ireturn, 1) := by decide +kernel
theorem d_CX_provided_35 : decode b_CX_provided 35 = .ok (.iinc 2 1, 3) := by decide +kernel
theorem d_CX_provided_38 : decode b_CX_provided 38 = .ok (.goto (-36), 3) := by decide +kernel
theorem d_CX_provided_41 : decode b_CX_provided 41 = .ok (.iconst 0, 1) := by decide +kernel
theorem d_CX_provided_42 : decode b_CX_provided 42 = .ok (.ireturn, 1) := by decide +kernel
def lp_CX_provided_2 (Q : Int → zS → Prop) : Nat → Int → Int → zS → Prop
  | 0 => fun _ _ _ => False
  | n + 1 => fun v1 v2 σ =>
    zc v2 ∧ zc (σ 40 5) ∧ ((σ 40 5 ≤ v2 →
      Q 0 σ) ∧
     (¬ σ 40 5 ≤ v2 →
      0 ≤ v2 ∧ v2 < σ 40 5 ∧ 
      0 ≤ σ 46 v2 ∧ σ 46 v2 < σ 71 0 ∧ 
      ∀ y7, y7 = σ 46 v2 →
      zc (σ 21 y7) ∧ zc v1 ∧ ((σ 21 y7 = v1 →
        Q 1 σ) ∧
       (¬ σ 21 y7 = v1 →
        lp_CX_provided_2 Q n v1 (v2 + 1) σ))))
def wp_CX_provided (Q : Int → zS → Prop) (v1 : Int) (σ : zS) : Prop :=
  ∃ u2, lp_CX_provided_2 Q u2 v1 0 σ
set_option maxHeartbeats 4000000 in
set_option maxRecDepth 100000 in
theorem wk_CX_provided_2 {E : zE} {D : va_G} {g : zG} {A : Nat → Prop} {ad : zA} {Q : Int → zS → Prop} (C : zX E b_CX_provided R_CX D g { frames := 3, cells := 0, slots := 0, locals := 64 } 4) (R : zRt E (some .boolean) (zQi D g ad Q A) 0 0 A) (S : zSt g A (zst E) (zst E).heap) : ∀ (n : Nat) (v1 : Int) (v2 : Int) (σ : zS), lp_CX_provided_2 Q n v1 v2 σ → zW E (zOK D A (zst E) g ad) 0 0 2 [(0, .ref (ad (0, 0))), (1, .int (zi v1)), (2, .int (zi v2))] [] σ := by
  intro n
  induction n with
  | zero =>
    intro v1 v2 σ h
    exact h.elim
  | succ n ih =>
    intro v1 v2 σ h
    refine z_iload_n C (pc := 2) d_CX_provided_2 2 rfl ?_
    refine z_aload_n C (pc := 3) d_CX_provided_3 0 rfl ?_
    refine x_getX (v := .ref (ad (1, 5))) C 6 (by decide) rfl wd_91 (pc := 4) d_CX_provided_4 ?_
    refine x_size (P := True) C S 5 (by decide) wd_146 ⟨Nat.le_of_ble_eq_true rfl, Nat.le_of_ble_eq_true rfl⟩ (Nat.le_of_ble_eq_true rfl) (pc := 7) d_CX_provided_7 ?_
    obtain ⟨hc1, hc2, h⟩ := h
    refine z_icmp_ge (tgt := 41) C (pc := 10) d_CX_provided_10 (by decide) hc1 hc2 h (fun h => ?_) (fun h => ?_)
    · refine z_iconst C (pc := 41) d_CX_provided_41 ?_
      exact z_zret C R (pc := 42) d_CX_provided_42 (by decide) h
    · refine z_aload_n C (pc := 13) d_CX_provided_13 0 rfl ?_
      refine x_getX (v := .ref (ad (1, 5))) C 6 (by decide) rfl wd_91 (pc := 14) d_CX_provided_14 ?_
      refine z_iload_n C (pc := 17) d_CX_provided_17 2 rfl ?_
      obtain ⟨hc3, hc4, h⟩ := h
      refine x_lget C S 5 (by decide) hc3 hc4 wd_306 ⟨Nat.le_of_ble_eq_true rfl, Nat.le_of_ble_eq_true rfl⟩ (Nat.le_of_ble_eq_true rfl) (pc := 18) d_CX_provided_18 ?_
      obtain ⟨hc5, hc6, h⟩ := h
      refine x_castC C wd_422 hc5 hc6 (pc := 21) d_CX_provided_21 ?_
      refine zNz h (fun y7 ey7 h => ?_)
      refine z_astoreZ_n (L' := [(3, zr ad 5 y7), (0, .ref (ad (0, 0))), (1, .int (zi v1)), (2, .int (zi v2))]) C (pc := 24) d_CX_provided_24 (by decide) rfl ?_
      refine z_aloadZ_n C (pc := 25) d_CX_provided_25 0 rfl ?_
      refine x_getC (v := .int (zi (σ 21 y7))) C 1 (by decide) (by rw [ey7]; exact hc5) (by rw [ey7]; exact hc6) rfl wd_431 (pc := 26) d_CX_provided_26 ?_
      refine z_iload_n C (pc := 29) d_CX_provided_29 2 rfl ?_
      obtain ⟨hc8, hc9, h⟩ := h
      refine z_icmp_ne (tgt := 35) C (pc := 30) d_CX_provided_30 (by decide) hc8 hc9 h (fun h => ?_) (fun h => ?_)
      · refine z_iinc (L' := [(2, .int (zi (v2 + 1))), (3, zr ad 5 y7), (0, .ref (ad (0, 0))), (1, .int (zi v1))]) C (pc := 35) d_CX_provided_35 3 rfl (by decide) rfl ?_
        refine z_goto (tgt := 2) C (pc := 38) d_CX_provided_38 (by decide) ?_
        refine z_sub [2, 3, 0] rfl ?_
        exact ih _ _ _ h
      · refine z_iconst C (pc := 33) d_CX_provided_33 ?_
        exact z_zret C R (pc := 34) d_CX_provided_34 (by decide) h
set_option maxHeartbeats 4000000 in
set_option maxRecDepth 100000 in
theorem c_CX_provided (l : Launch) (D : va_G) (g : zG) (ad : zA) (v1 : Int) (Q : Int → zS → Prop) (σ : zS) (h : wp_CX_provided Q v1 σ) : zGi l y_CX_provided b_CX_provided 4 (some .boolean) { frames := 3, cells := 0, slots := 0, locals := 64 } D g ad σ [.ref (ad (0, 0)), .int (zi v1)] Q := by
  unfold wp_CX_provided at h
  refine zN_of (by decide) (Nat.le_of_ble_eq_true rfl) (fun E C R S => ?_)
  have C : zX E b_CX_provided R_CX D g { frames := 3, cells := 0, slots := 0, locals := 64 } 4 := C
  refine z_sub (L' := [(0, .ref (ad (0, 0))), (1, .int (zi v1))]) [0, 1] rfl ?_
  refine z_iconst C (pc := 0) d_CX_provided_0 ?_
  refine z_istore_n (L' := [(2, .int (zi 0)), (0, .ref (ad (0, 0))), (1, .int (zi v1))]) C (pc := 1) d_CX_provided_1 (by decide) rfl ?_
  refine z_sub [1, 2, 0] rfl ?_
  obtain ⟨n10, h⟩ := h
  exact wk_CX_provided_2 C R S n10 _ _ _ h
theorem d_CX_undriven_0 : decode b_CX_undriven 0 = .ok (.iconst 0, 1) := by decide +kernel
theorem d_CX_undriven_1 : decode b_CX_undriven 1 = .ok (.istore_n 1, 1) := by decide +kernel
theorem d_CX_undriven_2 : decode b_CX_undriven 2 = .ok (.iload_n 1, 1) := by decide +kernel
theorem d_CX_undriven_3 : decode b_CX_undriven 3 = .ok (.aload_n 0, 1) := by decide +kernel
theorem d_CX_undriven_4 : decode b_CX_undriven 4 = .ok (.getfield 75, 3) := by decide +kernel
theorem d_CX_undriven_7 : decode b_CX_undriven 7 = .ok (.invokevirtual 113, 3) := by decide +kernel
theorem d_CX_undriven_10 : decode b_CX_undriven 10 = .ok (.if_icmp .ge 30, 3) := by decide +kernel
theorem d_CX_undriven_13 : decode b_CX_undriven 13 = .ok (.aload_n 0, 1) := by decide +kernel
theorem d_CX_undriven_14 : decode b_CX_undriven 14 = .ok (.getfield 75, 3) := by decide +kernel
theorem d_CX_undriven_17 : decode b_CX_undriven 17 = .ok (.iload_n 1, 1) := by decide +kernel
theorem d_CX_undriven_18 : decode b_CX_undriven 18 = .ok (.invokevirtual 116, 3) := by decide +kernel
theorem d_CX_undriven_21 : decode b_CX_undriven 21 = .ok (.checkcast 89, 3) := by decide +kernel
theorem d_CX_undriven_24 : decode b_CX_undriven 24 = .ok (.astore_n 2, 1) := by decide +kernel
theorem d_CX_undriven_25 : decode b_CX_undriven 25 = .ok (.aload_n 2, 1) := by decide +kernel
theorem d_CX_undriven_26 : decode b_CX_undriven 26 = .ok (.getfield 159, 3) := by decide +kernel
theorem d_CX_undriven_29 : decode b_CX_undriven 29 = .ok (.ifnonnull 5, 3) := by decide +kernel
theorem d_CX_undriven_32 : decode b_CX_undriven 32 = .ok (.iconst 1, 1) := by decide +kernel
theorem d_CX_undriven_33 : decode b_CX_undriven 33 = .ok (.ireturn, 1) := by decide +kernel
theorem d_CX_undriven_34 : decode b_CX_undriven 34 = .ok (.iinc 1 1, 3) := by decide +kernel
theorem d_CX_undriven_37 : decode b_CX_undriven 37 = .ok (.goto (-35), 3) := by decide +kernel
theorem d_CX_undriven_40 : decode b_CX_undriven 40 = .ok (.iconst 0, 1) := by decide +kernel
theorem d_CX_undriven_41 : decode b_CX_undriven 41 = .ok (.ireturn, 1) := by decide +kernel
def lp_CX_undriven_2 (Q : Int → zS → Prop) : Nat → Int → zS → Prop
  | 0 => fun _ _ => False
  | n + 1 => fun v1 σ =>
    zc v1 ∧ zc (σ 40 3) ∧ ((σ 40 3 ≤ v1 →
      Q 0 σ) ∧
     (¬ σ 40 3 ≤ v1 →
      0 ≤ v1 ∧ v1 < σ 40 3 ∧ 
      0 ≤ σ 44 v1 ∧ σ 44 v1 < σ 70 0 ∧ 
      ∀ y7, y7 = σ 44 v1 →
      ((σ 5 y7 < 0 →
        Q 1 σ) ∧
       (¬ σ 5 y7 < 0 →
        lp_CX_undriven_2 Q n (v1 + 1) σ))))
def wp_CX_undriven (Q : Int → zS → Prop) (σ : zS) : Prop :=
  ∃ u2, lp_CX_undriven_2 Q u2 0 σ
set_option maxHeartbeats 4000000 in
set_option maxRecDepth 100000 in
theorem wk_CX_undriven_2 {E : zE} {D : va_G} {g : zG} {A : Nat → Prop} {ad : zA} {Q : Int → zS → Prop} (C : zX E b_CX_undriven R_CX D g { frames := 3, cells := 0, slots := 0, locals := 64 } 3) (R : zRt E (some .boolean) (zQi D g ad Q A) 0 0 A) (S : zSt g A (zst E) (zst E).heap) : ∀ (n : Nat) (v1 : Int) (σ : zS), lp_CX_undriven_2 Q n v1 σ → zW E (zOK D A (zst E) g ad) 0 0 2 [(0, .ref (ad (0, 0))), (1, .int (zi v1))] [] σ := by
  intro n
  induction n with
  | zero =>
    intro v1 σ h
    exact h.elim
  | succ n ih =>
    intro v1 σ h
    refine z_iload_n C (pc := 2) d_CX_undriven_2 1 rfl ?_
    refine z_aload_n C (pc := 3) d_CX_undriven_3 0 rfl ?_
    refine x_getX (v := .ref (ad (1, 3))) C 4 (by decide) rfl wd_89 (pc := 4) d_CX_undriven_4 ?_
    refine x_size (P := True) C S 3 (by decide) wd_146 ⟨Nat.le_of_ble_eq_true rfl, Nat.le_of_ble_eq_true rfl⟩ (Nat.le_of_ble_eq_true rfl) (pc := 7) d_CX_undriven_7 ?_
    obtain ⟨hc1, hc2, h⟩ := h
    refine z_icmp_ge (tgt := 40) C (pc := 10) d_CX_undriven_10 (by decide) hc1 hc2 h (fun h => ?_) (fun h => ?_)
    · refine z_iconst C (pc := 40) d_CX_undriven_40 ?_
      exact z_zret C R (pc := 41) d_CX_undriven_41 (by decide) h
    · refine z_aload_n C (pc := 13) d_CX_undriven_13 0 rfl ?_
      refine x_getX (v := .ref (ad (1, 3))) C 4 (by decide) rfl wd_89 (pc := 14) d_CX_undriven_14 ?_
      refine z_iload_n C (pc := 17) d_CX_undriven_17 1 rfl ?_
      obtain ⟨hc3, hc4, h⟩ := h
      refine x_lget C S 3 (by decide) hc3 hc4 wd_306 ⟨Nat.le_of_ble_eq_true rfl, Nat.le_of_ble_eq_true rfl⟩ (Nat.le_of_ble_eq_true rfl) (pc := 18) d_CX_undriven_18 ?_
      obtain ⟨hc5, hc6, h⟩ := h
      refine x_castN C wd_83 (Or.inr ⟨hc5, hc6⟩) (pc := 21) d_CX_undriven_21 ?_
      refine zNz h (fun y7 ey7 h => ?_)
      refine z_astoreZ_n (L' := [(2, zr ad 4 y7), (0, .ref (ad (0, 0))), (1, .int (zi v1))]) C (pc := 24) d_CX_undriven_24 (by decide) rfl ?_
      refine z_aloadZ_n C (pc := 25) d_CX_undriven_25 0 rfl ?_
      refine x_getN (v := zr ad 4 (σ 5 y7)) C 5 (by decide) (by rw [ey7]; exact hc5) (by rw [ey7]; exact hc6) rfl wd_184 (pc := 26) d_CX_undriven_26 ?_
      refine z_ifnonnull (tgt := 34) C (pc := 29) d_CX_undriven_29 (by decide) h (fun h => ?_) (fun h => ?_)
      · refine z_iinc (L' := [(1, .int (zi (v1 + 1))), (2, zr ad 4 y7), (0, .ref (ad (0, 0)))]) C (pc := 34) d_CX_undriven_34 2 rfl (by decide) rfl ?_
        refine z_goto (tgt := 2) C (pc := 37) d_CX_undriven_37 (by decide) ?_
        refine z_sub [2, 0] rfl ?_
        exact ih _ _ h
      · refine z_iconst C (pc := 32) d_CX_undriven_32 ?_
        exact z_zret C R (pc := 33) d_CX_undriven_33 (by decide) h
set_option maxHeartbeats 4000000 in
set_option maxRecDepth 100000 in
theorem c_CX_undriven (l : Launch) (D : va_G) (g : zG) (ad : zA) (Q : Int → zS → Prop) (σ : zS) (h : wp_CX_undriven Q σ) : zGi l y_CX_undriven b_CX_undriven 3 (some .boolean) { frames := 3, cells := 0, slots := 0, locals := 64 } D g ad σ [.ref (ad (0, 0))] Q := by
  unfold wp_CX_undriven at h
  refine zN_of (by decide) (Nat.le_of_ble_eq_true rfl) (fun E C R S => ?_)
  have C : zX E b_CX_undriven R_CX D g { frames := 3, cells := 0, slots := 0, locals := 64 } 3 := C
  refine z_sub (L' := [(0, .ref (ad (0, 0)))]) [0] rfl ?_
  refine z_iconst C (pc := 0) d_CX_undriven_0 ?_
  refine z_istore_n (L' := [(1, .int (zi 0)), (0, .ref (ad (0, 0)))]) C (pc := 1) d_CX_undriven_1 (by decide) rfl ?_
  refine z_sub [1, 0] rfl ?_
  obtain ⟨n8, h⟩ := h
  exact wk_CX_undriven_2 C R S n8 _ _ h
theorem d_CX_ring_0 : decode b_CX_ring 0 = .ok (.iconst 0, 1) := by decide +kernel
theorem d_CX_ring_1 : decode b_CX_ring 1 = .ok (.istore_n 1, 1) := by decide +kernel
theorem d_CX_ring_2 : decode b_CX_ring 2 = .ok (.iload_n 1, 1) := by decide +kernel
theorem d_CX_ring_3 : decode b_CX_ring 3 = .ok (.aload_n 0, 1) := by decide +kernel
theorem d_CX_ring_4 : decode b_CX_ring 4 = .ok (.getfield 75, 3) := by decide +kernel
theorem d_CX_ring_7 : decode b_CX_ring 7 = .ok (.invokevirtual 113, 3) := by decide +kernel
theorem d_CX_ring_10 : decode b_CX_ring 10 = .ok (.if_icmp .ge 74, 3) := by decide +kernel
theorem d_CX_ring_13 : decode b_CX_ring 13 = .ok (.aload_n 0, 1) := by decide +kernel
theorem d_CX_ring_14 : decode b_CX_ring 14 = .ok (.getfield 75, 3) := by decide +kernel
theorem d_CX_ring_17 : decode b_CX_ring 17 = .ok (.iload_n 1, 1) := by decide +kernel
theorem d_CX_ring_18 : decode b_CX_ring 18 = .ok (.invokevirtual 116, 3) := by decide +kernel
theorem d_CX_ring_21 : decode b_CX_ring 21 = .ok (.checkcast 89, 3) := by decide +kernel
theorem d_CX_ring_24 : decode b_CX_ring 24 = .ok (.astore_n 2, 1) := by decide +kernel
theorem d_CX_ring_25 : decode b_CX_ring 25 = .ok (.aload_n 2, 1) := by decide +kernel
theorem d_CX_ring_26 : decode b_CX_ring 26 = .ok (.astore_n 3, 1) := by decide +kernel
theorem d_CX_ring_27 : decode b_CX_ring 27 = .ok (.iconst 0, 1) := by decide +kernel
theorem d_CX_ring_28 : decode b_CX_ring 28 = .ok (.istore 4, 2) := by decide +kernel
theorem d_CX_ring_30 : decode b_CX_ring 30 = .ok (.iload 4, 2) := by decide +kernel
theorem d_CX_ring_32 : decode b_CX_ring 32 = .ok (.bipush 6, 2) := by decide +kernel
theorem d_CX_ring_34 : decode b_CX_ring 34 = .ok (.if_icmp .gt 28, 3) := by decide +kernel
theorem d_CX_ring_37 : decode b_CX_ring 37 = .ok (.aload_n 3, 1) := by decide +kernel
theorem d_CX_ring_38 : decode b_CX_ring 38 = .ok (.ifnull 24, 3) := by decide +kernel
theorem d_CX_ring_41 : decode b_CX_ring 41 = .ok (.aload_n 3, 1) := by decide +kernel
theorem d_CX_ring_42 : decode b_CX_ring 42 = .ok (.getfield 156, 3) := by decide +kernel
theorem d_CX_ring_45 : decode b_CX_ring 45 = .ok (.getstatic 146, 3) := by decide +kernel
theorem d_CX_ring_48 : decode b_CX_ring 48 = .ok (.if_acmp .ne 14, 3) := by decide +kernel
theorem d_CX_ring_51 : decode b_CX_ring 51 = .ok (.aload_n 3, 1) := by decide +kernel
theorem d_CX_ring_52 : decode b_CX_ring 52 = .ok (.getfield 159, 3) := by decide +kernel
theorem d_CX_ring_55 : decode b_CX_ring 55 = .ok (.astore_n 3, 1) := by decide +kernel
theorem d_CX_ring_56 : decode b_CX_ring 56 = .ok (.iinc 4 1, 3) := by decide +kernel
theorem d_CX_ring_59 : decode b_CX_ring 59 = .ok (.goto (-29), 3) := by decide +kernel
theorem d_CX_ring_62 : decode b_CX_ring 62 = .ok (.aload_n 3, 1) := by decide +kernel
theorem d_CX_ring_63 : decode b_CX_ring 63 = .ok (.ifnull 15, 3) := by decide +kernel
theorem d_CX_ring_66 : decode b_CX_ring 66 = .ok (.aload_n 3, 1) := by decide +kernel
theorem d_CX_ring_67 : decode b_CX_ring 67 = .ok (.getfield 156, 3) := by decide +kernel
theorem d_CX_ring_70 : decode b_CX_ring 70 = .ok (.getstatic 146, 3) := by decide +kernel
theorem d_CX_ring_73 : decode b_CX_ring 73 = .ok (.if_acmp .ne 5, 3) := by decide +kernel
theorem d_CX_ring_76 : decode b_CX_ring 76 = .ok (.iconst 1, 1) := by decide +kernel
theorem d_CX_ring_77 : decode b_CX_ring 77 = .ok (.ireturn, 1) := by decide +kernel
theorem d_CX_ring_78 : decode b_CX_ring 78 = .ok (.iinc 1 1, 3) := by decide +kernel
theorem d_CX_ring_81 : decode b_CX_ring 81 = .ok (.goto (-79), 3) := by decide +kernel
theorem d_CX_ring_84 : decode b_CX_ring 84 = .ok (.iconst 0, 1) := by decide +kernel
theorem d_CX_ring_85 : decode b_CX_ring 85 = .ok (.ireturn, 1) := by decide +kernel
def bk_CX_ring_62 (Q : Int → zS → Prop) (J2 : Int → zS → Prop) (v1 : Int) (v3 : Int) (σ : zS) : Prop :=
  ((v3 < 0 →
    J2 (v1 + 1) σ) ∧
   (¬ v3 < 0 →
    0 ≤ v3 ∧ v3 < σ 70 0 ∧ 
    0 ≤ σ 1 v3 ∧ σ 1 v3 < 4 ∧ ((σ 1 v3 = 1 →
      Q 1 σ) ∧
     (¬ σ 1 v3 = 1 →
      J2 (v1 + 1) σ))))
def lp_CX_ring_30 (Q : Int → zS → Prop) (J2 : Int → zS → Prop) : Nat → Int → Int → Int → zS → Prop
  | 0 => fun _ _ _ _ => False
  | n + 1 => fun v1 v3 v4 σ =>
    zc v4 ∧ ((6 < v4 →
      bk_CX_ring_62 Q J2 v1 v3 σ) ∧
     (¬ 6 < v4 →
      ((v3 < 0 →
        bk_CX_ring_62 Q J2 v1 v3 σ) ∧
       (¬ v3 < 0 →
        0 ≤ v3 ∧ v3 < σ 70 0 ∧ 
        0 ≤ σ 1 v3 ∧ σ 1 v3 < 4 ∧ ((σ 1 v3 = 1 →
          ∀ y17, y17 = σ 5 v3 →
          lp_CX_ring_30 Q J2 n v1 y17 (v4 + 1) σ) ∧
         (¬ σ 1 v3 = 1 →
          bk_CX_ring_62 Q J2 v1 v3 σ))))))
def lp_CX_ring_2 (Q : Int → zS → Prop) : Nat → Int → zS → Prop
  | 0 => fun _ _ => False
  | n + 1 => fun v1 σ =>
    zc v1 ∧ zc (σ 40 3) ∧ ((σ 40 3 ≤ v1 →
      Q 0 σ) ∧
     (¬ σ 40 3 ≤ v1 →
      0 ≤ v1 ∧ v1 < σ 40 3 ∧ 
      0 ≤ σ 44 v1 ∧ σ 44 v1 < σ 70 0 ∧ 
      ∀ y7, y7 = σ 44 v1 →
      ∃ u30, lp_CX_ring_30 Q (lp_CX_ring_2 Q n) u30 v1 y7 0 σ))
def wp_CX_ring (Q : Int → zS → Prop) (σ : zS) : Prop :=
  ∃ u2, lp_CX_ring_2 Q u2 0 σ
set_option maxHeartbeats 4000000 in
set_option maxRecDepth 100000 in
theorem wk_CX_ring_62 {E : zE} {D : va_G} {g : zG} {A : Nat → Prop} {ad : zA} {Q : Int → zS → Prop} {J2 : Int → zS → Prop} (C : zX E b_CX_ring R_CX D g { frames := 3, cells := 0, slots := 0, locals := 64 } 5) (R : zRt E (some .boolean) (zQi D g ad Q A) 0 0 A) (S : zSt g A (zst E) (zst E).heap) (hJ2 : ∀ (v1 : Int) (σ : zS), J2 v1 σ → zW E (zOK D A (zst E) g ad) 0 0 2 [(0, .ref (ad (0, 0))), (1, .int (zi v1))] [] σ) (v1 : Int) (v3 : Int) (σ : zS) (h : bk_CX_ring_62 Q J2 v1 v3 σ) : zW E (zOK D A (zst E) g ad) 0 0 62 [(0, .ref (ad (0, 0))), (1, .int (zi v1)), (3, zr ad 4 v3)] [] σ := by
  unfold bk_CX_ring_62 at h
  refine z_aloadZ_n C (pc := 62) d_CX_ring_62 2 rfl ?_
  refine z_ifnull (tgt := 78) C (pc := 63) d_CX_ring_63 (by decide) h (fun h => ?_) (fun h => ?_)
  · refine z_iinc (L' := [(1, .int (zi (v1 + 1))), (0, .ref (ad (0, 0))), (3, zr ad 4 v3)]) C (pc := 78) d_CX_ring_78 1 rfl (by decide) rfl ?_
    refine z_goto (tgt := 2) C (pc := 81) d_CX_ring_81 (by decide) ?_
    refine z_sub [1, 0] rfl ?_
    exact hJ2 _ _ h
  · refine z_aloadZ_n C (pc := 66) d_CX_ring_66 2 rfl ?_
    obtain ⟨hc9, hc10, h⟩ := h
    refine x_getN (v := kv g (σ 1 v3)) C 1 (by decide) hc9 hc10 rfl wd_172 (pc := 67) d_CX_ring_67 ?_
    refine x_gets C S 1 (by decide) (by decide) rfl wd_324 (pc := 70) d_CX_ring_70 ?_
    obtain ⟨hc11, hc12, h⟩ := h
    refine x_acmpK_ne (tgt := 78) C S (pc := 73) d_CX_ring_73 (by decide) hc11 hc12 (by decide) (by decide) h (fun h => ?_) (fun h => ?_)
    · refine z_iinc (L' := [(1, .int (zi (v1 + 1))), (0, .ref (ad (0, 0))), (3, zr ad 4 v3)]) C (pc := 78) d_CX_ring_78 1 rfl (by decide) rfl ?_
      refine z_goto (tgt := 2) C (pc := 81) d_CX_ring_81 (by decide) ?_
      refine z_sub [1, 0] rfl ?_
      exact hJ2 _ _ h
    · refine z_iconst C (pc := 76) d_CX_ring_76 ?_
      exact z_zret C R (pc := 77) d_CX_ring_77 (by decide) h
set_option maxHeartbeats 4000000 in
set_option maxRecDepth 100000 in
theorem wk_CX_ring_30 {E : zE} {D : va_G} {g : zG} {A : Nat → Prop} {ad : zA} {Q : Int → zS → Prop} {J2 : Int → zS → Prop} (C : zX E b_CX_ring R_CX D g { frames := 3, cells := 0, slots := 0, locals := 64 } 5) (R : zRt E (some .boolean) (zQi D g ad Q A) 0 0 A) (S : zSt g A (zst E) (zst E).heap) (hJ2 : ∀ (v1 : Int) (σ : zS), J2 v1 σ → zW E (zOK D A (zst E) g ad) 0 0 2 [(0, .ref (ad (0, 0))), (1, .int (zi v1))] [] σ) : ∀ (n : Nat) (v1 : Int) (v3 : Int) (v4 : Int) (σ : zS), lp_CX_ring_30 Q J2 n v1 v3 v4 σ → zW E (zOK D A (zst E) g ad) 0 0 30 [(0, .ref (ad (0, 0))), (1, .int (zi v1)), (3, zr ad 4 v3), (4, .int (zi v4))] [] σ := by
  intro n
  induction n with
  | zero =>
    intro v1 v3 v4 σ h
    exact h.elim
  | succ n ih =>
    intro v1 v3 v4 σ h
    refine z_iload C (pc := 30) d_CX_ring_30 3 rfl ?_
    refine z_bipush C (pc := 32) d_CX_ring_32 (by decide) ?_
    obtain ⟨hc8, h⟩ := h
    refine z_icmp_gt (tgt := 62) C (pc := 34) d_CX_ring_34 (by decide) hc8 (by decide) h (fun h => ?_) (fun h => ?_)
    · refine z_sub [0, 1, 2] rfl ?_
      exact wk_CX_ring_62 C R S hJ2 _ _ _ h
    · refine z_aloadZ_n C (pc := 37) d_CX_ring_37 2 rfl ?_
      refine z_ifnull (tgt := 62) C (pc := 38) d_CX_ring_38 (by decide) h (fun h => ?_) (fun h => ?_)
      · refine z_sub [0, 1, 2] rfl ?_
        exact wk_CX_ring_62 C R S hJ2 _ _ _ h
      · refine z_aloadZ_n C (pc := 41) d_CX_ring_41 2 rfl ?_
        obtain ⟨hc13, hc14, h⟩ := h
        refine x_getN (v := kv g (σ 1 v3)) C 1 (by decide) hc13 hc14 rfl wd_172 (pc := 42) d_CX_ring_42 ?_
        refine x_gets C S 1 (by decide) (by decide) rfl wd_324 (pc := 45) d_CX_ring_45 ?_
        obtain ⟨hc15, hc16, h⟩ := h
        refine x_acmpK_ne (tgt := 62) C S (pc := 48) d_CX_ring_48 (by decide) hc15 hc16 (by decide) (by decide) h (fun h => ?_) (fun h => ?_)
        · refine z_sub [0, 1, 2] rfl ?_
          exact wk_CX_ring_62 C R S hJ2 _ _ _ h
        · refine z_aloadZ_n C (pc := 51) d_CX_ring_51 2 rfl ?_
          refine x_getN (v := zr ad 4 (σ 5 v3)) C 5 (by decide) hc13 hc14 rfl wd_184 (pc := 52) d_CX_ring_52 ?_
          refine zNz h (fun y17 ey17 h => ?_)
          refine z_astoreZ_n (L' := [(3, zr ad 4 y17), (0, .ref (ad (0, 0))), (1, .int (zi v1)), (4, .int (zi v4))]) C (pc := 55) d_CX_ring_55 (by decide) rfl ?_
          refine z_iinc (L' := [(4, .int (zi (v4 + 1))), (3, zr ad 4 y17), (0, .ref (ad (0, 0))), (1, .int (zi v1))]) C (pc := 56) d_CX_ring_56 3 rfl (by decide) (congrArg (List.cons _) (flt_eq (j := 4) rfl (List.forall_mem_singleton.mpr (zr_cat _ _ _)) rfl)) ?_
          refine z_goto (tgt := 30) C (pc := 59) d_CX_ring_59 (by decide) ?_
          refine z_sub [2, 3, 1, 0] rfl ?_
          exact ih _ _ _ _ h
set_option maxHeartbeats 4000000 in
set_option maxRecDepth 100000 in
theorem wk_CX_ring_2 {E : zE} {D : va_G} {g : zG} {A : Nat → Prop} {ad : zA} {Q : Int → zS → Prop} (C : zX E b_CX_ring R_CX D g { frames := 3, cells := 0, slots := 0, locals := 64 } 5) (R : zRt E (some .boolean) (zQi D g ad Q A) 0 0 A) (S : zSt g A (zst E) (zst E).heap) : ∀ (n : Nat) (v1 : Int) (σ : zS), lp_CX_ring_2 Q n v1 σ → zW E (zOK D A (zst E) g ad) 0 0 2 [(0, .ref (ad (0, 0))), (1, .int (zi v1))] [] σ := by
  intro n
  induction n with
  | zero =>
    intro v1 σ h
    exact h.elim
  | succ n ih =>
    intro v1 σ h
    refine z_iload_n C (pc := 2) d_CX_ring_2 1 rfl ?_
    refine z_aload_n C (pc := 3) d_CX_ring_3 0 rfl ?_
    refine x_getX (v := .ref (ad (1, 3))) C 4 (by decide) rfl wd_89 (pc := 4) d_CX_ring_4 ?_
    refine x_size (P := True) C S 3 (by decide) wd_146 ⟨Nat.le_of_ble_eq_true rfl, Nat.le_of_ble_eq_true rfl⟩ (Nat.le_of_ble_eq_true rfl) (pc := 7) d_CX_ring_7 ?_
    obtain ⟨hc1, hc2, h⟩ := h
    refine z_icmp_ge (tgt := 84) C (pc := 10) d_CX_ring_10 (by decide) hc1 hc2 h (fun h => ?_) (fun h => ?_)
    · refine z_iconst C (pc := 84) d_CX_ring_84 ?_
      exact z_zret C R (pc := 85) d_CX_ring_85 (by decide) h
    · refine z_aload_n C (pc := 13) d_CX_ring_13 0 rfl ?_
      refine x_getX (v := .ref (ad (1, 3))) C 4 (by decide) rfl wd_89 (pc := 14) d_CX_ring_14 ?_
      refine z_iload_n C (pc := 17) d_CX_ring_17 1 rfl ?_
      obtain ⟨hc3, hc4, h⟩ := h
      refine x_lget C S 3 (by decide) hc3 hc4 wd_306 ⟨Nat.le_of_ble_eq_true rfl, Nat.le_of_ble_eq_true rfl⟩ (Nat.le_of_ble_eq_true rfl) (pc := 18) d_CX_ring_18 ?_
      obtain ⟨hc5, hc6, h⟩ := h
      refine x_castN C wd_83 (Or.inr ⟨hc5, hc6⟩) (pc := 21) d_CX_ring_21 ?_
      refine zNz h (fun y7 ey7 h => ?_)
      refine z_astoreZ_n (L' := [(2, zr ad 4 y7), (0, .ref (ad (0, 0))), (1, .int (zi v1))]) C (pc := 24) d_CX_ring_24 (by decide) rfl ?_
      refine z_aloadZ_n C (pc := 25) d_CX_ring_25 0 rfl ?_
      refine z_astoreZ_n (L' := [(3, zr ad 4 y7), (2, zr ad 4 y7), (0, .ref (ad (0, 0))), (1, .int (zi v1))]) C (pc := 26) d_CX_ring_26 (by decide) (congrArg (List.cons _) (flt_eq (j := 3) rfl (List.forall_mem_singleton.mpr (zr_cat _ _ _)) rfl)) ?_
      refine z_iconst C (pc := 27) d_CX_ring_27 ?_
      refine z_istore (L' := [(4, .int (zi 0)), (3, zr ad 4 y7), (2, zr ad 4 y7), (0, .ref (ad (0, 0))), (1, .int (zi v1))]) C (pc := 28) d_CX_ring_28 (by decide) (congrArg (List.cons _) (flt_eq (j := 4) rfl (List.forall_mem_singleton.mpr (zr_cat _ _ _)) rfl)) ?_
      refine z_sub [3, 4, 1, 0] rfl ?_
      obtain ⟨n18, h⟩ := h
      exact wk_CX_ring_30 C R S ih n18 _ _ _ _ h
set_option maxHeartbeats 4000000 in
set_option maxRecDepth 100000 in
theorem c_CX_ring (l : Launch) (D : va_G) (g : zG) (ad : zA) (Q : Int → zS → Prop) (σ : zS) (h : wp_CX_ring Q σ) : zGi l y_CX_ring b_CX_ring 5 (some .boolean) { frames := 3, cells := 0, slots := 0, locals := 64 } D g ad σ [.ref (ad (0, 0))] Q := by
  unfold wp_CX_ring at h
  refine zN_of (by decide) (Nat.le_of_ble_eq_true rfl) (fun E C R S => ?_)
  have C : zX E b_CX_ring R_CX D g { frames := 3, cells := 0, slots := 0, locals := 64 } 5 := C
  refine z_sub (L' := [(0, .ref (ad (0, 0)))]) [0] rfl ?_
  refine z_iconst C (pc := 0) d_CX_ring_0 ?_
  refine z_istore_n (L' := [(1, .int (zi 0)), (0, .ref (ad (0, 0)))]) C (pc := 1) d_CX_ring_1 (by decide) rfl ?_
  refine z_sub [1, 0] rfl ?_
  obtain ⟨n19, h⟩ := h
  exact wk_CX_ring_2 C R S n19 _ _ h
theorem d_CX_use_0 : decode b_CX_use 0 = .ok (.aload_n 0, 1) := by decide +kernel
theorem d_CX_use_1 : decode b_CX_use 1 = .ok (.iconst 1, 1) := by decide +kernel
theorem d_CX_use_2 : decode b_CX_use 2 = .ok (.putfield 187, 3) := by decide +kernel
theorem d_CX_use_5 : decode b_CX_use 5 = .ok (.aload_n 0, 1) := by decide +kernel
theorem d_CX_use_6 : decode b_CX_use 6 = .ok (.dup, 1) := by decide +kernel
theorem d_CX_use_7 : decode b_CX_use 7 = .ok (.getfield 190, 3) := by decide +kernel
theorem d_CX_use_10 : decode b_CX_use 10 = .ok (.iconst 1, 1) := by decide +kernel
theorem d_CX_use_11 : decode b_CX_use 11 = .ok (.iadd, 1) := by decide +kernel
theorem d_CX_use_12 : decode b_CX_use 12 = .ok (.putfield 190, 3) := by decide +kernel
theorem d_CX_use_15 : decode b_CX_use 15 = .ok (.return_, 1) := by decide +kernel
def wp_CX_use (Q : zS → Prop) (v0 : Int) (σ : zS) : Prop :=
  0 ≤ v0 ∧ v0 < σ 70 0 ∧ ∀ σ1, σ1 = zup σ 9 v0 1 →
  ∀ σ4, σ4 = zup σ1 12 v0 ((σ1 12 v0) + 1) →
  Q σ4
set_option maxHeartbeats 4000000 in
set_option maxRecDepth 100000 in
theorem c_CX_use (l : Launch) (D : va_G) (g : zG) (ad : zA) (v0 : Int) (Q : zS → Prop) (σ : zS) (h : wp_CX_use Q v0 σ) : zGv l y_CX_use b_CX_use 1 none { frames := 0, cells := 0, slots := 0, locals := 0 } D g ad σ [zr ad 4 v0] Q := by
  unfold wp_CX_use at h
  refine zN_of (by decide) (by simp [lg_sl, zr_cat, kv_cat, cat_i, cat_l, cat_r]) (fun E C R S => ?_)
  have C : zX E b_CX_use R_CX D g { frames := 0, cells := 0, slots := 0, locals := 0 } 1 := C
  refine z_sub (L' := [(0, zr ad 4 v0)]) [0] (by simp [lv_args, lv_pick, zr_cat, kv_cat, cat_i, cat_l, cat_r]) ?_
  refine z_aloadZ_n C (pc := 0) d_CX_use_0 0 rfl ?_
  refine z_iconst C (pc := 1) d_CX_use_1 ?_
  obtain ⟨hc2, hc3, h⟩ := h
  refine x_putN (v := 1) C 9 (by decide) hc2 hc3 rfl (z_bool rfl (by decide)) rfl wd_190 (pc := 2) d_CX_use_2 ?_
  refine zN h (fun σ1 eσ1 h => ?_)
  refine z_aloadZ_n C (pc := 5) d_CX_use_5 0 rfl ?_
  refine z_dup C (pc := 6) d_CX_use_6 (zr_cat _ _ _) ?_
  refine x_getN (v := .int (zi (σ1 12 v0))) C 12 (by decide) hc2 (by rw [eσ1]; exact hc3) rfl wd_195 (pc := 7) d_CX_use_7 ?_
  refine z_iconst C (pc := 10) d_CX_use_10 ?_
  refine z_iadd C (pc := 11) d_CX_use_11 ?_
  refine x_putN (v := (σ1 12 v0) + 1) C 12 (by decide) hc2 (by rw [eσ1]; exact hc3) rfl ⟨rfl, rfl⟩ rfl wd_195 (pc := 12) d_CX_use_12 ?_
  refine zN h (fun σ4 eσ4 h => ?_)
  exact z_vret C R (pc := 15) d_CX_use_15 h
theorem d_ND_root_0 : decode b_ND_root 0 = .ok (.aload_n 0, 1) := by decide +kernel
theorem d_ND_root_1 : decode b_ND_root 1 = .ok (.getfield 13, 3) := by decide +kernel
theorem d_ND_root_4 : decode b_ND_root 4 = .ok (.invokevirtual 35, 3) := by decide +kernel
theorem d_ND_root_7 : decode b_ND_root 7 = .ok (.ifCond .eq 29, 3) := by decide +kernel
theorem d_ND_root_10 : decode b_ND_root 10 = .ok (.aload_n 0, 1) := by decide +kernel
theorem d_ND_root_11 : decode b_ND_root 11 = .ok (.getfield 39, 3) := by decide +kernel
theorem d_ND_root_14 : decode b_ND_root 14 = .ok (.ifCond .eq 22, 3) := by decide +kernel
theorem d_ND_root_17 : decode b_ND_root 17 = .ok (.aload_n 0, 1) := by decide +kernel
theorem d_ND_root_18 : decode b_ND_root 18 = .ok (.getfield 43, 3) := by decide +kernel
theorem d_ND_root_21 : decode b_ND_root 21 = .ok (.ifCond .ne 11, 3) := by decide +kernel
theorem d_ND_root_24 : decode b_ND_root 24 = .ok (.aload_n 0, 1) := by decide +kernel
theorem d_ND_root_25 : decode b_ND_root 25 = .ok (.getfield 46, 3) := by decide +kernel
theorem d_ND_root_28 : decode b_ND_root 28 = .ok (.iconst 1, 1) := by decide +kernel
theorem d_ND_root_29 : decode b_ND_root 29 = .ok (.if_icmp .le 7, 3) := by decide +kernel
theorem d_ND_root_32 : decode b_ND_root 32 = .ok (.iconst 1, 1) := by decide +kernel
theorem d_ND_root_33 : decode b_ND_root 33 = .ok (.goto 4, 3) := by decide +kernel
theorem d_ND_root_36 : decode b_ND_root 36 = .ok (.iconst 0, 1) := by decide +kernel
theorem d_ND_root_37 : decode b_ND_root 37 = .ok (.ireturn, 1) := by decide +kernel
def wp_ND_root (Q : Int → zS → Prop) (v0 : Int) (σ : zS) : Prop :=
  0 ≤ v0 ∧ v0 < σ 70 0 ∧
  0 ≤ σ 1 v0 ∧ σ 1 v0 < 4 ∧ 
  ((lgc (σ 1 v0) = 0 →
    Q 0 σ) ∧
   (¬ lgc (σ 1 v0) = 0 →
    zc (σ 9 v0) ∧ ((σ 9 v0 = 0 →
      Q 0 σ) ∧
     (¬ σ 9 v0 = 0 →
      zc (σ 10 v0) ∧ ((σ 10 v0 = 0 →
        zc (σ 12 v0) ∧ ((σ 12 v0 ≤ 1 →
          Q 0 σ) ∧
         (¬ σ 12 v0 ≤ 1 →
          Q 1 σ))) ∧
       (¬ σ 10 v0 = 0 →
        Q 1 σ))))))
set_option maxHeartbeats 4000000 in
set_option maxRecDepth 100000 in
theorem c_ND_root (l : Launch) (D : va_G) (g : zG) (ad : zA) (v0 : Int) (Q : Int → zS → Prop) (σ : zS) (h : wp_ND_root Q v0 σ) : zGi l y_ND_root b_ND_root 1 (some .boolean) { frames := 1, cells := 0, slots := 0, locals := 20 } D g ad σ [.ref (ad (4, v0.toNat))] Q := by
  unfold wp_ND_root at h
  obtain ⟨h0, h1, h⟩ := h
  refine zN_of (by decide) (Nat.le_of_ble_eq_true rfl) (fun E C R S => ?_)
  have C : zX E b_ND_root R_ND D g { frames := 1, cells := 0, slots := 0, locals := 20 } 1 := C
  refine z_sub (L' := [(0, zr ad 4 v0)]) [0] (by rw [zr_s ad 4 h0]; rfl) ?_
  refine z_aloadZ_n C (pc := 0) d_ND_root_0 0 rfl ?_
  refine x_getN (v := kv g (σ 1 v0)) C 1 (by decide) h0 h1 rfl wd_168 (pc := 1) d_ND_root_1 ?_
  obtain ⟨hc1, hc2, h⟩ := h
  refine x_logic C S wd_512 ⟨Nat.le_of_ble_eq_true rfl, Nat.le_of_ble_eq_true rfl⟩ hc1 hc2 (Nat.le_of_ble_eq_true rfl) (pc := 4) d_ND_root_4 ?_
  refine z_if_eq (tgt := 36) C (pc := 7) d_ND_root_7 (by decide) (lgc_c _) h (fun h => ?_) (fun h => ?_)
  · refine z_iconst C (pc := 36) d_ND_root_36 ?_
    exact z_zret C R (pc := 37) d_ND_root_37 (by decide) h
  · refine z_aloadZ_n C (pc := 10) d_ND_root_10 0 rfl ?_
    refine x_getN (v := .int (zi (σ 9 v0))) C 9 (by decide) h0 h1 rfl wd_189 (pc := 11) d_ND_root_11 ?_
    obtain ⟨hc3, h⟩ := h
    refine z_if_eq (tgt := 36) C (pc := 14) d_ND_root_14 (by decide) hc3 h (fun h => ?_) (fun h => ?_)
    · refine z_iconst C (pc := 36) d_ND_root_36 ?_
      exact z_zret C R (pc := 37) d_ND_root_37 (by decide) h
    · refine z_aloadZ_n C (pc := 17) d_ND_root_17 0 rfl ?_
      refine x_getN (v := .int (zi (σ 10 v0))) C 10 (by decide) h0 h1 rfl wd_191 (pc := 18) d_ND_root_18 ?_
      obtain ⟨hc4, h⟩ := h
      refine z_if_ne (tgt := 32) C (pc := 21) d_ND_root_21 (by decide) hc4 h (fun h => ?_) (fun h => ?_)
      · refine z_iconst C (pc := 32) d_ND_root_32 ?_
        refine z_goto (tgt := 37) C (pc := 33) d_ND_root_33 (by decide) ?_
        exact z_zret C R (pc := 37) d_ND_root_37 (by decide) h
      · refine z_aloadZ_n C (pc := 24) d_ND_root_24 0 rfl ?_
        refine x_getN (v := .int (zi (σ 12 v0))) C 12 (by decide) h0 h1 rfl wd_194 (pc := 25) d_ND_root_25 ?_
        refine z_iconst C (pc := 28) d_ND_root_28 ?_
        obtain ⟨hc5, h⟩ := h
        refine z_icmp_le (tgt := 36) C (pc := 29) d_ND_root_29 (by decide) hc5 (by decide) h (fun h => ?_) (fun h => ?_)
        · refine z_iconst C (pc := 36) d_ND_root_36 ?_
          exact z_zret C R (pc := 37) d_ND_root_37 (by decide) h
        · refine z_iconst C (pc := 32) d_ND_root_32 ?_
          refine z_goto (tgt := 37) C (pc := 33) d_ND_root_33 (by decide) ?_
          exact z_zret C R (pc := 37) d_ND_root_37 (by decide) h
theorem d_ND_inner_0 : decode b_ND_inner 0 = .ok (.aload_n 0, 1) := by decide +kernel
theorem d_ND_inner_1 : decode b_ND_inner 1 = .ok (.getfield 13, 3) := by decide +kernel
theorem d_ND_inner_4 : decode b_ND_inner 4 = .ok (.invokevirtual 35, 3) := by decide +kernel
theorem d_ND_inner_7 : decode b_ND_inner 7 = .ok (.ifCond .eq 14, 3) := by decide +kernel
theorem d_ND_inner_10 : decode b_ND_inner 10 = .ok (.aload_n 0, 1) := by decide +kernel
theorem d_ND_inner_11 : decode b_ND_inner 11 = .ok (.invokevirtual 49, 3) := by decide +kernel
theorem d_ND_inner_14 : decode b_ND_inner 14 = .ok (.ifCond .ne 7, 3) := by decide +kernel
theorem d_ND_inner_17 : decode b_ND_inner 17 = .ok (.iconst 1, 1) := by decide +kernel
theorem d_ND_inner_18 : decode b_ND_inner 18 = .ok (.goto 4, 3) := by decide +kernel
theorem d_ND_inner_21 : decode b_ND_inner 21 = .ok (.iconst 0, 1) := by decide +kernel
theorem d_ND_inner_22 : decode b_ND_inner 22 = .ok (.ireturn, 1) := by decide +kernel
def wp_ND_inner (Q : Int → zS → Prop) (v0 : Int) (σ : zS) : Prop :=
  0 ≤ v0 ∧ v0 < σ 70 0 ∧
  0 ≤ σ 1 v0 ∧ σ 1 v0 < 4 ∧ 
  ((lgc (σ 1 v0) = 0 →
    Q 0 σ) ∧
   (¬ lgc (σ 1 v0) = 0 →
    wp_ND_root (fun r4 σ3 =>
      zc r4 ∧ ((r4 = 0 →
        Q 1 σ3) ∧
       (¬ r4 = 0 →
        Q 0 σ3))) v0 σ))
set_option maxHeartbeats 4000000 in
set_option maxRecDepth 100000 in
theorem c_ND_inner (l : Launch) (D : va_G) (g : zG) (ad : zA) (v0 : Int) (Q : Int → zS → Prop) (σ : zS) (h : wp_ND_inner Q v0 σ) : zGi l y_ND_inner b_ND_inner 1 (some .boolean) { frames := 2, cells := 0, slots := 0, locals := 40 } D g ad σ [.ref (ad (4, v0.toNat))] Q := by
  unfold wp_ND_inner at h
  obtain ⟨h0, h1, h⟩ := h
  refine zN_of (by decide) (Nat.le_of_ble_eq_true rfl) (fun E C R S => ?_)
  have C : zX E b_ND_inner R_ND D g { frames := 2, cells := 0, slots := 0, locals := 40 } 1 := C
  refine z_sub (L' := [(0, zr ad 4 v0)]) [0] (by rw [zr_s ad 4 h0]; rfl) ?_
  refine z_aloadZ_n C (pc := 0) d_ND_inner_0 0 rfl ?_
  refine x_getN (v := kv g (σ 1 v0)) C 1 (by decide) h0 h1 rfl wd_168 (pc := 1) d_ND_inner_1 ?_
  obtain ⟨hc1, hc2, h⟩ := h
  refine x_logic C S wd_512 ⟨Nat.le_of_ble_eq_true rfl, Nat.le_of_ble_eq_true rfl⟩ hc1 hc2 (Nat.le_of_ble_eq_true rfl) (pc := 4) d_ND_inner_4 ?_
  refine z_if_eq (tgt := 21) C (pc := 7) d_ND_inner_7 (by decide) (lgc_c _) h (fun h => ?_) (fun h => ?_)
  · refine z_iconst C (pc := 21) d_ND_inner_21 ?_
    exact z_zret C R (pc := 22) d_ND_inner_22 (by decide) h
  · refine z_aloadZ_n C (pc := 10) d_ND_inner_10 0 rfl ?_
    refine x_callVi (As := []) (st := []) C S fy_ND_root (4, v0.toNat) (zids_node h0 h1) rfl rfl wd_541 (pc := 11) d_ND_inner_11 ⟨rfl, rfl, Nat.le_of_ble_eq_true rfl, Nat.le_of_ble_eq_true rfl⟩ rfl (by rw [zr_s ad 4 h0]; rfl) (Nat.le_of_ble_eq_true rfl) h (c_ND_root (zln E) D g ad _ _ _) (fun r4 σ3 h => ?_)
    obtain ⟨hc5, h⟩ := h
    refine z_if_ne (tgt := 21) C (pc := 14) d_ND_inner_14 (by decide) hc5 h (fun h => ?_) (fun h => ?_)
    · refine z_iconst C (pc := 21) d_ND_inner_21 ?_
      exact z_zret C R (pc := 22) d_ND_inner_22 (by decide) h
    · refine z_iconst C (pc := 17) d_ND_inner_17 ?_
      refine z_goto (tgt := 22) C (pc := 18) d_ND_inner_18 (by decide) ?_
      exact z_zret C R (pc := 22) d_ND_inner_22 (by decide) h
theorem d_CX_trace_0 : decode b_CX_trace 0 = .ok (.aload_n 0, 1) := by decide +kernel
theorem d_CX_trace_1 : decode b_CX_trace 1 = .ok (.getfield 91, 3) := by decide +kernel
theorem d_CX_trace_4 : decode b_CX_trace 4 = .ok (.iload_n 1, 1) := by decide +kernel
theorem d_CX_trace_5 : decode b_CX_trace 5 = .ok (.aaload, 1) := by decide +kernel
theorem d_CX_trace_6 : decode b_CX_trace 6 = .ok (.astore_n 2, 1) := by decide +kernel
theorem d_CX_trace_7 : decode b_CX_trace 7 = .ok (.aload_n 2, 1) := by decide +kernel
theorem d_CX_trace_8 : decode b_CX_trace 8 = .ok (.ifnull 62, 3) := by decide +kernel
theorem d_CX_trace_11 : decode b_CX_trace 11 = .ok (.aload_n 2, 1) := by decide +kernel
theorem d_CX_trace_12 : decode b_CX_trace 12 = .ok (.getfield 156, 3) := by decide +kernel
theorem d_CX_trace_15 : decode b_CX_trace 15 = .ok (.getstatic 146, 3) := by decide +kernel
theorem d_CX_trace_18 : decode b_CX_trace 18 = .ok (.if_acmp .ne 52, 3) := by decide +kernel
theorem d_CX_trace_21 : decode b_CX_trace 21 = .ok (.aload_n 0, 1) := by decide +kernel
theorem d_CX_trace_22 : decode b_CX_trace 22 = .ok (.getfield 98, 3) := by decide +kernel
theorem d_CX_trace_25 : decode b_CX_trace 25 = .ok (.iload_n 1, 1) := by decide +kernel
theorem d_CX_trace_26 : decode b_CX_trace 26 = .ok (.iaload, 1) := by decide +kernel
theorem d_CX_trace_27 : decode b_CX_trace 27 = .ok (.bipush 6, 2) := by decide +kernel
theorem d_CX_trace_29 : decode b_CX_trace 29 = .ok (.if_icmp .gt 41, 3) := by decide +kernel
theorem d_CX_trace_32 : decode b_CX_trace 32 = .ok (.aload_n 0, 1) := by decide +kernel
theorem d_CX_trace_33 : decode b_CX_trace 33 = .ok (.getfield 102, 3) := by decide +kernel
theorem d_CX_trace_36 : decode b_CX_trace 36 = .ok (.iload_n 1, 1) := by decide +kernel
theorem d_CX_trace_37 : decode b_CX_trace 37 = .ok (.aload_n 0, 1) := by decide +kernel
theorem d_CX_trace_38 : decode b_CX_trace 38 = .ok (.getfield 102, 3) := by decide +kernel
theorem d_CX_trace_41 : decode b_CX_trace 41 = .ok (.iload_n 1, 1) := by decide +kernel
theorem d_CX_trace_42 : decode b_CX_trace 42 = .ok (.laload, 1) := by decide +kernel
theorem d_CX_trace_43 : decode b_CX_trace 43 = .ok (.iconst 1, 1) := by decide +kernel
theorem d_CX_trace_44 : decode b_CX_trace 44 = .ok (.lshl, 1) := by decide +kernel
theorem d_CX_trace_45 : decode b_CX_trace 45 = .ok (.aload_n 2, 1) := by decide +kernel
theorem d_CX_trace_46 : decode b_CX_trace 46 = .ok (.getfield 120, 3) := by decide +kernel
theorem d_CX_trace_49 : decode b_CX_trace 49 = .ok (.i2l, 1) := by decide +kernel
theorem d_CX_trace_50 : decode b_CX_trace 50 = .ok (.lor, 1) := by decide +kernel
theorem d_CX_trace_51 : decode b_CX_trace 51 = .ok (.lastore, 1) := by decide +kernel
theorem d_CX_trace_52 : decode b_CX_trace 52 = .ok (.aload_n 0, 1) := by decide +kernel
theorem d_CX_trace_53 : decode b_CX_trace 53 = .ok (.getfield 98, 3) := by decide +kernel
theorem d_CX_trace_56 : decode b_CX_trace 56 = .ok (.iload_n 1, 1) := by decide +kernel
theorem d_CX_trace_57 : decode b_CX_trace 57 = .ok (.dup2, 1) := by decide +kernel
theorem d_CX_trace_58 : decode b_CX_trace 58 = .ok (.iaload, 1) := by decide +kernel
theorem d_CX_trace_59 : decode b_CX_trace 59 = .ok (.iconst 1, 1) := by decide +kernel
theorem d_CX_trace_60 : decode b_CX_trace 60 = .ok (.iadd, 1) := by decide +kernel
theorem d_CX_trace_61 : decode b_CX_trace 61 = .ok (.iastore, 1) := by decide +kernel
theorem d_CX_trace_62 : decode b_CX_trace 62 = .ok (.aload_n 2, 1) := by decide +kernel
theorem d_CX_trace_63 : decode b_CX_trace 63 = .ok (.getfield 159, 3) := by decide +kernel
theorem d_CX_trace_66 : decode b_CX_trace 66 = .ok (.astore_n 2, 1) := by decide +kernel
theorem d_CX_trace_67 : decode b_CX_trace 67 = .ok (.goto (-60), 3) := by decide +kernel
theorem d_CX_trace_70 : decode b_CX_trace 70 = .ok (.aload_n 0, 1) := by decide +kernel
theorem d_CX_trace_71 : decode b_CX_trace 71 = .ok (.getfield 95, 3) := by decide +kernel
theorem d_CX_trace_74 : decode b_CX_trace 74 = .ok (.iload_n 1, 1) := by decide +kernel
theorem d_CX_trace_75 : decode b_CX_trace 75 = .ok (.aload_n 2, 1) := by decide +kernel
theorem d_CX_trace_76 : decode b_CX_trace 76 = .ok (.aastore, 1) := by decide +kernel
theorem d_CX_trace_77 : decode b_CX_trace 77 = .ok (.return_, 1) := by decide +kernel
def bk_CX_trace_70 (Q : zS → Prop) (v1 : Int) (v2 : Int) (σ : zS) : Prop :=
  0 ≤ v1 ∧ v1 < 196 ∧ zvn σ v2 ∧ ∀ σ4, σ4 = zup σ 51 v1 v2 →
  Q σ4
def lp_CX_trace_7 (Q : zS → Prop) : Nat → Int → Int → zS → Prop
  | 0 => fun _ _ _ => False
  | n + 1 => fun v1 v2 σ =>
    ((v2 < 0 →
      bk_CX_trace_70 Q v1 v2 σ) ∧
     (¬ v2 < 0 →
      0 ≤ v2 ∧ v2 < σ 70 0 ∧ 
      0 ≤ σ 1 v2 ∧ σ 1 v2 < 4 ∧ ((σ 1 v2 = 1 →
        0 ≤ v1 ∧ v1 < 196 ∧ 
        zc (σ 52 v1) ∧ ((6 < σ 52 v1 →
          bk_CX_trace_70 Q v1 v2 σ) ∧
         (¬ 6 < σ 52 v1 →
          zc (σ 4 v2) ∧ 
          ∀ σ16, σ16 = zup σ 53 v1 (zlor (zlshl (σ 53 v1) 1) (σ 4 v2)) →
          ∀ σ17, σ17 = zup σ16 52 v1 ((σ16 52 v1) + 1) →
          ∀ y18, y18 = σ17 5 v2 →
          lp_CX_trace_7 Q n v1 y18 σ17))) ∧
       (¬ σ 1 v2 = 1 →
        bk_CX_trace_70 Q v1 v2 σ))))
def wp_CX_trace (Q : zS → Prop) (v1 : Int) (σ : zS) : Prop :=
  0 ≤ v1 ∧ v1 < 196 ∧ 
  ∀ y3, y3 = σ 50 v1 →
  ∃ u7, lp_CX_trace_7 Q u7 v1 y3 σ
set_option maxHeartbeats 4000000 in
set_option maxRecDepth 100000 in
theorem wk_CX_trace_70 {E : zE} {D : va_G} {g : zG} {A : Nat → Prop} {ad : zA} {Q : zS → Prop} (C : zX E b_CX_trace R_CX D g { frames := 0, cells := 0, slots := 0, locals := 0 } 3) (R : zRt E none (zQv D g ad Q A) 0 0 A) (S : zSt g A (zst E) (zst E).heap) (v1 : Int) (v2 : Int) (σ : zS) (h : bk_CX_trace_70 Q v1 v2 σ) : zW E (zOK D A (zst E) g ad) 0 0 70 [(0, .ref (ad (0, 0))), (1, .int (zi v1)), (2, zr ad 4 v2)] [] σ := by
  unfold bk_CX_trace_70 at h
  refine z_aload_n C (pc := 70) d_CX_trace_70 0 rfl ?_
  refine x_getX (v := .ref (ad (3, 1))) C 10 (by decide) rfl wd_95 (pc := 71) d_CX_trace_71 ?_
  refine z_iload_n C (pc := 74) d_CX_trace_74 1 rfl ?_
  refine z_aloadZ_n C (pc := 75) d_CX_trace_75 2 rfl ?_
  obtain ⟨hc5, hc6, hc7, h⟩ := h
  refine x_aast C 1 (by decide) hc5 hc6 hc7 (pc := 76) d_CX_trace_76 ?_
  refine zN h (fun σ4 eσ4 h => ?_)
  exact z_vret C R (pc := 77) d_CX_trace_77 h
set_option maxHeartbeats 4000000 in
set_option maxRecDepth 100000 in
theorem wk_CX_trace_7 {E : zE} {D : va_G} {g : zG} {A : Nat → Prop} {ad : zA} {Q : zS → Prop} (C : zX E b_CX_trace R_CX D g { frames := 0, cells := 0, slots := 0, locals := 0 } 3) (R : zRt E none (zQv D g ad Q A) 0 0 A) (S : zSt g A (zst E) (zst E).heap) : ∀ (n : Nat) (v1 : Int) (v2 : Int) (σ : zS), lp_CX_trace_7 Q n v1 v2 σ → zW E (zOK D A (zst E) g ad) 0 0 7 [(0, .ref (ad (0, 0))), (1, .int (zi v1)), (2, zr ad 4 v2)] [] σ := by
  intro n
  induction n with
  | zero =>
    intro v1 v2 σ h
    exact h.elim
  | succ n ih =>
    intro v1 v2 σ h
    refine z_aloadZ_n C (pc := 7) d_CX_trace_7 2 rfl ?_
    refine z_ifnull (tgt := 70) C (pc := 8) d_CX_trace_8 (by decide) h (fun h => ?_) (fun h => ?_)
    · exact wk_CX_trace_70 C R S _ _ _ h
    · refine z_aloadZ_n C (pc := 11) d_CX_trace_11 2 rfl ?_
      obtain ⟨hc8, hc9, h⟩ := h
      refine x_getN (v := kv g (σ 1 v2)) C 1 (by decide) hc8 hc9 rfl wd_172 (pc := 12) d_CX_trace_12 ?_
      refine x_gets C S 1 (by decide) (by decide) rfl wd_324 (pc := 15) d_CX_trace_15 ?_
      obtain ⟨hc10, hc11, h⟩ := h
      refine x_acmpK_ne (tgt := 70) C S (pc := 18) d_CX_trace_18 (by decide) hc10 hc11 (by decide) (by decide) h (fun h => ?_) (fun h => ?_)
      · exact wk_CX_trace_70 C R S _ _ _ h
      · refine z_aload_n C (pc := 21) d_CX_trace_21 0 rfl ?_
        refine x_getX (v := .ref (ad (3, 2))) C 11 (by decide) rfl wd_96 (pc := 22) d_CX_trace_22 ?_
        refine z_iload_n C (pc := 25) d_CX_trace_25 1 rfl ?_
        obtain ⟨hc12, hc13, h⟩ := h
        refine x_iald C hc12 hc13 (pc := 26) d_CX_trace_26 ?_
        refine z_bipush C (pc := 27) d_CX_trace_27 (by decide) ?_
        obtain ⟨hc14, h⟩ := h
        refine z_icmp_gt (tgt := 70) C (pc := 29) d_CX_trace_29 (by decide) hc14 (by decide) h (fun h => ?_) (fun h => ?_)
        · exact wk_CX_trace_70 C R S _ _ _ h
        · refine z_aload_n C (pc := 32) d_CX_trace_32 0 rfl ?_
          refine x_getX (v := .ref (ad (3, 3))) C 12 (by decide) rfl wd_97 (pc := 33) d_CX_trace_33 ?_
          refine z_iload_n C (pc := 36) d_CX_trace_36 1 rfl ?_
          refine z_aload_n C (pc := 37) d_CX_trace_37 0 rfl ?_
          refine x_getX (v := .ref (ad (3, 3))) C 12 (by decide) rfl wd_97 (pc := 38) d_CX_trace_38 ?_
          refine z_iload_n C (pc := 41) d_CX_trace_41 1 rfl ?_
          refine x_lald C 3 (by decide) hc12 hc13 (pc := 42) d_CX_trace_42 ?_
          refine z_iconst C (pc := 43) d_CX_trace_43 ?_
          refine z_lshl C (pc := 44) d_CX_trace_44 ?_
          refine z_aloadZ_n C (pc := 45) d_CX_trace_45 2 rfl ?_
          refine x_getN (v := .int (zi (σ 4 v2))) C 4 (by decide) hc8 hc9 rfl wd_183 (pc := 46) d_CX_trace_46 ?_
          obtain ⟨hc15, h⟩ := h
          refine z_i2l C (pc := 49) d_CX_trace_49 hc15 ?_
          refine z_lor C (pc := 50) d_CX_trace_50 ?_
          refine x_last C 3 (by decide) hc12 hc13 (pc := 51) d_CX_trace_51 ?_
          refine zN h (fun σ16 eσ16 h => ?_)
          refine z_aload_n C (pc := 52) d_CX_trace_52 0 rfl ?_
          refine x_getX (v := .ref (ad (3, 2))) C 11 (by decide) rfl wd_96 (pc := 53) d_CX_trace_53 ?_
          refine z_iload_n C (pc := 56) d_CX_trace_56 1 rfl ?_
          refine z_dup2 C (pc := 57) d_CX_trace_57 rfl rfl ?_
          refine x_iald C hc12 hc13 (pc := 58) d_CX_trace_58 ?_
          refine z_iconst C (pc := 59) d_CX_trace_59 ?_
          refine z_iadd C (pc := 60) d_CX_trace_60 ?_
          refine x_iast C hc12 hc13 (pc := 61) d_CX_trace_61 ?_
          refine zN h (fun σ17 eσ17 h => ?_)
          refine z_aloadZ_n C (pc := 62) d_CX_trace_62 2 rfl ?_
          refine x_getN (v := zr ad 4 (σ17 5 v2)) C 5 (by decide) hc8 (by rw [eσ17]; exact (by rw [eσ16]; exact hc9)) rfl wd_184 (pc := 63) d_CX_trace_63 ?_
          refine zNz h (fun y18 ey18 h => ?_)
          refine z_astoreZ_n (L' := [(2, zr ad 4 y18), (0, .ref (ad (0, 0))), (1, .int (zi v1))]) C (pc := 66) d_CX_trace_66 (by decide) rfl ?_
          refine z_goto (tgt := 7) C (pc := 67) d_CX_trace_67 (by decide) ?_
          refine z_sub [1, 2, 0] rfl ?_
          exact ih _ _ _ h
set_option maxHeartbeats 4000000 in
set_option maxRecDepth 100000 in
theorem c_CX_trace (l : Launch) (D : va_G) (g : zG) (ad : zA) (v1 : Int) (Q : zS → Prop) (σ : zS) (h : wp_CX_trace Q v1 σ) : zGv l y_CX_trace b_CX_trace 3 none { frames := 0, cells := 0, slots := 0, locals := 0 } D g ad σ [.ref (ad (0, 0)), .int (zi v1)] Q := by
  unfold wp_CX_trace at h
  refine zN_of (by decide) (Nat.le_of_ble_eq_true rfl) (fun E C R S => ?_)
  have C : zX E b_CX_trace R_CX D g { frames := 0, cells := 0, slots := 0, locals := 0 } 3 := C
  refine z_sub (L' := [(0, .ref (ad (0, 0))), (1, .int (zi v1))]) [0, 1] rfl ?_
  refine z_aload_n C (pc := 0) d_CX_trace_0 0 rfl ?_
  refine x_getX (v := .ref (ad (3, 0))) C 9 (by decide) rfl wd_94 (pc := 1) d_CX_trace_1 ?_
  refine z_iload_n C (pc := 4) d_CX_trace_4 1 rfl ?_
  obtain ⟨hc1, hc2, h⟩ := h
  refine x_aald C 0 (by decide) hc1 hc2 (pc := 5) d_CX_trace_5 ?_
  refine zNz h (fun y3 ey3 h => ?_)
  refine z_astoreZ_n (L' := [(2, zr ad 4 y3), (0, .ref (ad (0, 0))), (1, .int (zi v1))]) C (pc := 6) d_CX_trace_6 (by decide) rfl ?_
  refine z_sub [1, 2, 0] rfl ?_
  obtain ⟨n19, h⟩ := h
  exact wk_CX_trace_7 C R S n19 _ _ _ h
theorem d_CX_sink_0 : decode b_CX_sink 0 = .ok (.iload_n 1, 1) := by decide +kernel
theorem d_CX_sink_1 : decode b_CX_sink 1 = .ok (.sipush 192, 3) := by decide +kernel
theorem d_CX_sink_4 : decode b_CX_sink 4 = .ok (.if_icmp .lt 7, 3) := by decide +kernel
theorem d_CX_sink_7 : decode b_CX_sink 7 = .ok (.aconst_null, 1) := by decide +kernel
theorem d_CX_sink_8 : decode b_CX_sink 8 = .ok (.goto 16, 3) := by decide +kernel
theorem d_CX_sink_11 : decode b_CX_sink 11 = .ok (.aload_n 0, 1) := by decide +kernel
theorem d_CX_sink_12 : decode b_CX_sink 12 = .ok (.getfield 65, 3) := by decide +kernel
theorem d_CX_sink_15 : decode b_CX_sink 15 = .ok (.iload_n 1, 1) := by decide +kernel
theorem d_CX_sink_16 : decode b_CX_sink 16 = .ok (.iconst 4, 1) := by decide +kernel
theorem d_CX_sink_17 : decode b_CX_sink 17 = .ok (.idiv, 1) := by decide +kernel
theorem d_CX_sink_18 : decode b_CX_sink 18 = .ok (.invokevirtual 116, 3) := by decide +kernel
theorem d_CX_sink_21 : decode b_CX_sink 21 = .ok (.checkcast 89, 3) := by decide +kernel
theorem d_CX_sink_24 : decode b_CX_sink 24 = .ok (.areturn, 1) := by decide +kernel
def wp_CX_sink (Q : Int → zS → Prop) (v1 : Int) (σ : zS) : Prop :=
  zc v1 ∧ ((v1 < 192 →
    0 ≤ v1 ∧ 
    0 ≤ v1 / 4 ∧ v1 / 4 < σ 40 0 ∧ 
    0 ≤ σ 41 (v1 / 4) ∧ σ 41 (v1 / 4) < σ 70 0 ∧ 
    Q (σ 41 (v1 / 4)) σ) ∧
   (¬ v1 < 192 →
    Q (-1) σ))
set_option maxHeartbeats 4000000 in
set_option maxRecDepth 100000 in
theorem c_CX_sink (l : Launch) (D : va_G) (g : zG) (ad : zA) (v1 : Int) (Q : Int → zS → Prop) (σ : zS) (h : wp_CX_sink Q v1 σ) : zGr 4 l y_CX_sink b_CX_sink 2 (some (.object "CellMapper$Node")) { frames := 3, cells := 0, slots := 0, locals := 64 } D g ad σ [.ref (ad (0, 0)), .int (zi v1)] Q := by
  unfold wp_CX_sink at h
  refine zN_of (by decide) (Nat.le_of_ble_eq_true rfl) (fun E C R S => ?_)
  have C : zX E b_CX_sink R_CX D g { frames := 3, cells := 0, slots := 0, locals := 64 } 2 := C
  refine z_sub (L' := [(0, .ref (ad (0, 0))), (1, .int (zi v1))]) [0, 1] rfl ?_
  refine z_iload_n C (pc := 0) d_CX_sink_0 1 rfl ?_
  refine z_sipush C (pc := 1) d_CX_sink_1 (by decide) ?_
  obtain ⟨hc1, h⟩ := h
  refine z_icmp_lt (tgt := 11) C (pc := 4) d_CX_sink_4 (by decide) hc1 (by decide) h (fun h => ?_) (fun h => ?_)
  · refine z_aload_n C (pc := 11) d_CX_sink_11 0 rfl ?_
    refine x_getX (v := .ref (ad (1, 0))) C 1 (by decide) rfl wd_86 (pc := 12) d_CX_sink_12 ?_
    refine z_iload_n C (pc := 15) d_CX_sink_15 1 rfl ?_
    refine z_iconst C (pc := 16) d_CX_sink_16 ?_
    obtain ⟨hc2, h⟩ := h
    refine z_idiv C (pc := 17) d_CX_sink_17 hc1 hc2 (by decide) (by decide) ?_
    obtain ⟨hc3, hc4, h⟩ := h
    refine x_lget C S 0 (by decide) hc3 hc4 wd_306 ⟨Nat.le_of_ble_eq_true rfl, Nat.le_of_ble_eq_true rfl⟩ (Nat.le_of_ble_eq_true rfl) (pc := 18) d_CX_sink_18 ?_
    obtain ⟨hc5, hc6, h⟩ := h
    refine x_castN C wd_83 (Or.inr ⟨hc5, hc6⟩) (pc := 21) d_CX_sink_21 ?_
    exact z_aret C R (Or.inl ⟨_, rfl⟩) (pc := 24) d_CX_sink_24 h
  · refine z_nullZ (ad := ad) 4 C (pc := 7) d_CX_sink_7 ?_
    refine z_goto (tgt := 24) C (pc := 8) d_CX_sink_8 (by decide) ?_
    exact z_aret C R (Or.inl ⟨_, rfl⟩) (pc := 24) d_CX_sink_24 h
theorem d_CX_left_0 : decode b_CX_left 0 = .ok (.aload_n 0, 1) := by decide +kernel
theorem d_CX_left_1 : decode b_CX_left 1 = .ok (.getfield 95, 3) := by decide +kernel
theorem d_CX_left_4 : decode b_CX_left 4 = .ok (.iload_n 1, 1) := by decide +kernel
theorem d_CX_left_5 : decode b_CX_left 5 = .ok (.aaload, 1) := by decide +kernel
theorem d_CX_left_6 : decode b_CX_left 6 = .ok (.astore_n 2, 1) := by decide +kernel
theorem d_CX_left_7 : decode b_CX_left 7 = .ok (.aload_n 0, 1) := by decide +kernel
theorem d_CX_left_8 : decode b_CX_left 8 = .ok (.iload_n 1, 1) := by decide +kernel
theorem d_CX_left_9 : decode b_CX_left 9 = .ok (.invokevirtual 258, 3) := by decide +kernel
theorem d_CX_left_12 : decode b_CX_left 12 = .ok (.astore_n 3, 1) := by decide +kernel
theorem d_CX_left_13 : decode b_CX_left 13 = .ok (.aload_n 0, 1) := by decide +kernel
theorem d_CX_left_14 : decode b_CX_left 14 = .ok (.getfield 98, 3) := by decide +kernel
theorem d_CX_left_17 : decode b_CX_left 17 = .ok (.iload_n 1, 1) := by decide +kernel
theorem d_CX_left_18 : decode b_CX_left 18 = .ok (.iaload, 1) := by decide +kernel
theorem d_CX_left_19 : decode b_CX_left 19 = .ok (.aload_n 2, 1) := by decide +kernel
theorem d_CX_left_20 : decode b_CX_left 20 = .ok (.getfield 196, 3) := by decide +kernel
theorem d_CX_left_23 : decode b_CX_left 23 = .ok (.ifCond .eq 10, 3) := by decide +kernel
theorem d_CX_left_26 : decode b_CX_left 26 = .ok (.aload_n 2, 1) := by decide +kernel
theorem d_CX_left_27 : decode b_CX_left 27 = .ok (.getfield 261, 3) := by decide +kernel
theorem d_CX_left_30 : decode b_CX_left 30 = .ok (.goto 4, 3) := by decide +kernel
theorem d_CX_left_33 : decode b_CX_left 33 = .ok (.iconst 0, 1) := by decide +kernel
theorem d_CX_left_34 : decode b_CX_left 34 = .ok (.iadd, 1) := by decide +kernel
theorem d_CX_left_35 : decode b_CX_left 35 = .ok (.aload_n 3, 1) := by decide +kernel
theorem d_CX_left_36 : decode b_CX_left 36 = .ok (.ifnonnull 7, 3) := by decide +kernel
theorem d_CX_left_39 : decode b_CX_left 39 = .ok (.iconst 0, 1) := by decide +kernel
theorem d_CX_left_40 : decode b_CX_left 40 = .ok (.goto 7, 3) := by decide +kernel
theorem d_CX_left_43 : decode b_CX_left 43 = .ok (.aload_n 3, 1) := by decide +kernel
theorem d_CX_left_44 : decode b_CX_left 44 = .ok (.getfield 261, 3) := by decide +kernel
theorem d_CX_left_47 : decode b_CX_left 47 = .ok (.isub, 1) := by decide +kernel
theorem d_CX_left_48 : decode b_CX_left 48 = .ok (.ireturn, 1) := by decide +kernel
def bk_CX_left_34 (Q : Int → zS → Prop) (v3 : Int) (z0 : Int) (z1 : Int) (σ : zS) : Prop :=
  ((v3 < 0 →
    Q ((z1 + z0) - 0) σ) ∧
   (¬ v3 < 0 →
    0 ≤ v3 ∧ v3 < σ 70 0 ∧ 
    Q ((z1 + z0) - (σ 15 v3)) σ))
def wp_CX_left (Q : Int → zS → Prop) (v1 : Int) (σ : zS) : Prop :=
  0 ≤ v1 ∧ v1 < 196 ∧ 
  ∀ y3, y3 = σ 51 v1 →
  wp_CX_sink (fun r5 σ4 =>
    0 ≤ y3 ∧ y3 < σ4 70 0 ∧ 
    zc (σ4 11 y3) ∧ ((σ4 11 y3 = 0 →
      bk_CX_left_34 Q r5 0 (σ4 52 v1) σ4) ∧
     (¬ σ4 11 y3 = 0 →
      bk_CX_left_34 Q r5 (σ4 15 y3) (σ4 52 v1) σ4))) v1 σ
set_option maxHeartbeats 4000000 in
set_option maxRecDepth 100000 in
theorem wk_CX_left_34 {E : zE} {D : va_G} {g : zG} {A : Nat → Prop} {ad : zA} {Q : Int → zS → Prop} (C : zX E b_CX_left R_CX D g { frames := 4, cells := 0, slots := 0, locals := 85 } 4) (R : zRt E (some .int) (zQi D g ad Q A) 0 0 A) (S : zSt g A (zst E) (zst E).heap) (v3 : Int) (z0 : Int) (z1 : Int) (σ : zS) (h : bk_CX_left_34 Q v3 z0 z1 σ) : zW E (zOK D A (zst E) g ad) 0 0 34 [(3, zr ad 4 v3)] [.int (zi z0), .int (zi z1)] σ := by
  unfold bk_CX_left_34 at h
  refine z_iadd C (pc := 34) d_CX_left_34 ?_
  refine z_aloadZ_n C (pc := 35) d_CX_left_35 0 rfl ?_
  refine z_ifnonnull (tgt := 43) C (pc := 36) d_CX_left_36 (by decide) h (fun h => ?_) (fun h => ?_)
  · refine z_aloadZ_n C (pc := 43) d_CX_left_43 0 rfl ?_
    obtain ⟨hc9, hc10, h⟩ := h
    refine x_getN (v := .int (zi (σ 15 v3))) C 15 (by decide) hc9 hc10 rfl wd_199 (pc := 44) d_CX_left_44 ?_
    refine z_isub C (pc := 47) d_CX_left_47 ?_
    exact z_iret C R (pc := 48) d_CX_left_48 h
  · refine z_iconst C (pc := 39) d_CX_left_39 ?_
    refine z_goto (tgt := 47) C (pc := 40) d_CX_left_40 (by decide) ?_
    refine z_isub C (pc := 47) d_CX_left_47 ?_
    exact z_iret C R (pc := 48) d_CX_left_48 h
set_option maxHeartbeats 4000000 in
set_option maxRecDepth 100000 in
theorem c_CX_left (l : Launch) (D : va_G) (g : zG) (ad : zA) (v1 : Int) (Q : Int → zS → Prop) (σ : zS) (h : wp_CX_left Q v1 σ) : zGi l y_CX_left b_CX_left 4 (some .int) { frames := 4, cells := 0, slots := 0, locals := 85 } D g ad σ [.ref (ad (0, 0)), .int (zi v1)] Q := by
  unfold wp_CX_left at h
  refine zN_of (by decide) (Nat.le_of_ble_eq_true rfl) (fun E C R S => ?_)
  have C : zX E b_CX_left R_CX D g { frames := 4, cells := 0, slots := 0, locals := 85 } 4 := C
  refine z_sub (L' := [(0, .ref (ad (0, 0))), (1, .int (zi v1))]) [0, 1] rfl ?_
  refine z_aload_n C (pc := 0) d_CX_left_0 0 rfl ?_
  refine x_getX (v := .ref (ad (3, 1))) C 10 (by decide) rfl wd_95 (pc := 1) d_CX_left_1 ?_
  refine z_iload_n C (pc := 4) d_CX_left_4 1 rfl ?_
  obtain ⟨hc1, hc2, h⟩ := h
  refine x_aald C 1 (by decide) hc1 hc2 (pc := 5) d_CX_left_5 ?_
  refine zNz h (fun y3 ey3 h => ?_)
  refine z_astoreZ_n (L' := [(2, zr ad 4 y3), (0, .ref (ad (0, 0))), (1, .int (zi v1))]) C (pc := 6) d_CX_left_6 (by decide) rfl ?_
  refine z_aload_n C (pc := 7) d_CX_left_7 1 rfl ?_
  refine z_iload_n C (pc := 8) d_CX_left_8 2 rfl ?_
  refine x_callVr (As := [.int (zi v1)]) (st := []) C S fy_CX_sink (0, 0) (zids_fix zfix_0) rfl rfl wd_593 (pc := 9) d_CX_left_9 ⟨rfl, rfl, Nat.le_of_ble_eq_true rfl, Nat.le_of_ble_eq_true rfl⟩ rfl rfl (Nat.le_of_ble_eq_true rfl) h (c_CX_sink (zln E) D g ad _ _ _) (fun r5 σ4 h => ?_)
  refine z_astoreZ_n (L' := [(3, zr ad 4 r5), (2, zr ad 4 y3), (0, .ref (ad (0, 0))), (1, .int (zi v1))]) C (pc := 12) d_CX_left_12 (by decide) (congrArg (List.cons _) (flt_eq (j := 3) rfl (List.forall_mem_singleton.mpr (zr_cat _ _ _)) rfl)) ?_
  refine z_aload_n C (pc := 13) d_CX_left_13 2 rfl ?_
  refine x_getX (v := .ref (ad (3, 2))) C 11 (by decide) rfl wd_96 (pc := 14) d_CX_left_14 ?_
  refine z_iload_n C (pc := 17) d_CX_left_17 3 rfl ?_
  refine x_iald C hc1 hc2 (pc := 18) d_CX_left_18 ?_
  refine z_aloadZ_n C (pc := 19) d_CX_left_19 1 rfl ?_
  obtain ⟨hc6, hc7, h⟩ := h
  refine x_getN (v := .int (zi (σ4 11 y3))) C 11 (by decide) hc6 hc7 rfl wd_193 (pc := 20) d_CX_left_20 ?_
  obtain ⟨hc8, h⟩ := h
  refine z_if_eq (tgt := 33) C (pc := 23) d_CX_left_23 (by decide) hc8 h (fun h => ?_) (fun h => ?_)
  · refine z_iconst C (pc := 33) d_CX_left_33 ?_
    refine z_sub [0] rfl ?_
    exact wk_CX_left_34 C R S _ _ _ _ h
  · refine z_aloadZ_n C (pc := 26) d_CX_left_26 1 rfl ?_
    refine x_getN (v := .int (zi (σ4 15 y3))) C 15 (by decide) hc6 hc7 rfl wd_199 (pc := 27) d_CX_left_27 ?_
    refine z_goto (tgt := 34) C (pc := 30) d_CX_left_30 (by decide) ?_
    refine z_sub [0] rfl ?_
    exact wk_CX_left_34 C R S _ _ _ _ h
theorem d_CX_ways_0 : decode b_CX_ways 0 = .ok (.iconst 0, 1) := by decide +kernel
theorem d_CX_ways_1 : decode b_CX_ways 1 = .ok (.istore_n 1, 1) := by decide +kernel
theorem d_CX_ways_2 : decode b_CX_ways 2 = .ok (.iconst 0, 1) := by decide +kernel
theorem d_CX_ways_3 : decode b_CX_ways 3 = .ok (.istore_n 2, 1) := by decide +kernel
theorem d_CX_ways_4 : decode b_CX_ways 4 = .ok (.iload_n 2, 1) := by decide +kernel
theorem d_CX_ways_5 : decode b_CX_ways 5 = .ok (.aload_n 0, 1) := by decide +kernel
theorem d_CX_ways_6 : decode b_CX_ways 6 = .ok (.getfield 65, 3) := by decide +kernel
theorem d_CX_ways_9 : decode b_CX_ways 9 = .ok (.invokevirtual 113, 3) := by decide +kernel
theorem d_CX_ways_12 : decode b_CX_ways 12 = .ok (.if_icmp .ge 43, 3) := by decide +kernel
theorem d_CX_ways_15 : decode b_CX_ways 15 = .ok (.aload_n 0, 1) := by decide +kernel
theorem d_CX_ways_16 : decode b_CX_ways 16 = .ok (.getfield 65, 3) := by decide +kernel
theorem d_CX_ways_19 : decode b_CX_ways 19 = .ok (.iload_n 2, 1) := by decide +kernel
theorem d_CX_ways_20 : decode b_CX_ways 20 = .ok (.invokevirtual 116, 3) := by decide +kernel
theorem d_CX_ways_23 : decode b_CX_ways 23 = .ok (.checkcast 89, 3) := by decide +kernel
theorem d_CX_ways_26 : decode b_CX_ways 26 = .ok (.astore_n 3, 1) := by decide +kernel
theorem d_CX_ways_27 : decode b_CX_ways 27 = .ok (.aload_n 3, 1) := by decide +kernel
theorem d_CX_ways_28 : decode b_CX_ways 28 = .ok (.aload_n 3, 1) := by decide +kernel
theorem d_CX_ways_29 : decode b_CX_ways 29 = .ok (.getfield 196, 3) := by decide +kernel
theorem d_CX_ways_32 : decode b_CX_ways 32 = .ok (.ifCond .eq 13, 3) := by decide +kernel
theorem d_CX_ways_35 : decode b_CX_ways 35 = .ok (.aload_n 3, 1) := by decide +kernel
theorem d_CX_ways_36 : decode b_CX_ways 36 = .ok (.getfield 199, 3) := by decide +kernel
theorem d_CX_ways_39 : decode b_CX_ways 39 = .ok (.getfield 264, 3) := by decide +kernel
theorem d_CX_ways_42 : decode b_CX_ways 42 = .ok (.goto 4, 3) := by decide +kernel
theorem d_CX_ways_45 : decode b_CX_ways 45 = .ok (.iconst 0, 1) := by decide +kernel
theorem d_CX_ways_46 : decode b_CX_ways 46 = .ok (.putfield 267, 3) := by decide +kernel
theorem d_CX_ways_49 : decode b_CX_ways 49 = .ok (.iinc 2 1, 3) := by decide +kernel
theorem d_CX_ways_52 : decode b_CX_ways 52 = .ok (.goto (-48), 3) := by decide +kernel
theorem d_CX_ways_55 : decode b_CX_ways 55 = .ok (.iconst 1, 1) := by decide +kernel
theorem d_CX_ways_56 : decode b_CX_ways 56 = .ok (.istore_n 2, 1) := by decide +kernel
theorem d_CX_ways_57 : decode b_CX_ways 57 = .ok (.iconst 0, 1) := by decide +kernel
theorem d_CX_ways_58 : decode b_CX_ways 58 = .ok (.istore_n 3, 1) := by decide +kernel
theorem d_CX_ways_59 : decode b_CX_ways 59 = .ok (.iload_n 2, 1) := by decide +kernel
theorem d_CX_ways_60 : decode b_CX_ways 60 = .ok (.ifCond .eq 110, 3) := by decide +kernel
theorem d_CX_ways_63 : decode b_CX_ways 63 = .ok (.iload_n 3, 1) := by decide +kernel
theorem d_CX_ways_64 : decode b_CX_ways 64 = .ok (.bipush 48, 2) := by decide +kernel
theorem d_CX_ways_66 : decode b_CX_ways 66 = .ok (.if_icmp .gt 104, 3) := by decide +kernel
theorem d_CX_ways_69 : decode b_CX_ways 69 = .ok (.iconst 0, 1) := by decide +kernel
theorem d_CX_ways_70 : decode b_CX_ways 70 = .ok (.istore_n 2, 1) := by decide +kernel
theorem d_CX_ways_71 : decode b_CX_ways 71 = .ok (.iconst 0, 1) := by decide +kernel
theorem d_CX_ways_72 : decode b_CX_ways 72 = .ok (.istore 4, 2) := by decide +kernel
theorem d_CX_ways_74 : decode b_CX_ways 74 = .ok (.iload 4, 2) := by decide +kernel
theorem d_CX_ways_76 : decode b_CX_ways 76 = .ok (.iconst 4, 1) := by decide +kernel
theorem d_CX_ways_77 : decode b_CX_ways 77 = .ok (.aload_n 0, 1) := by decide +kernel
theorem d_CX_ways_78 : decode b_CX_ways 78 = .ok (.getfield 65, 3) := by decide +kernel
theorem d_CX_ways_81 : decode b_CX_ways 81 = .ok (.invokevirtual 113, 3) := by decide +kernel
theorem d_CX_ways_84 : decode b_CX_ways 84 = .ok (.imul, 1) := by decide +kernel
theorem d_CX_ways_85 : decode b_CX_ways 85 = .ok (.if_icmp .ge 79, 3) := by decide +kernel
theorem d_CX_ways_88 : decode b_CX_ways 88 = .ok (.aload_n 0, 1) := by decide +kernel
theorem d_CX_ways_89 : decode b_CX_ways 89 = .ok (.getfield 95, 3) := by decide +kernel
theorem d_CX_ways_92 : decode b_CX_ways 92 = .ok (.iload 4, 2) := by decide +kernel
theorem d_CX_ways_94 : decode b_CX_ways 94 = .ok (.aaload, 1) := by decide +kernel
theorem d_CX_ways_95 : decode b_CX_ways 95 = .ok (.astore 5, 2) := by decide +kernel
theorem d_CX_ways_97 : decode b_CX_ways 97 = .ok (.aload 5, 2) := by decide +kernel
theorem d_CX_ways_99 : decode b_CX_ways 99 = .ok (.ifnull 59, 3) := by decide +kernel
theorem d_CX_ways_102 : decode b_CX_ways 102 = .ok (.aload 5, 2) := by decide +kernel
theorem d_CX_ways_104 : decode b_CX_ways 104 = .ok (.getfield 196, 3) := by decide +kernel
theorem d_CX_ways_107 : decode b_CX_ways 107 = .ok (.ifCond .eq 51, 3) := by decide +kernel
theorem d_CX_ways_110 : decode b_CX_ways 110 = .ok (.aload_n 0, 1) := by decide +kernel
theorem d_CX_ways_111 : decode b_CX_ways 111 = .ok (.iload 4, 2) := by decide +kernel
theorem d_CX_ways_113 : decode b_CX_ways 113 = .ok (.invokevirtual 270, 3) := by decide +kernel
theorem d_CX_ways_116 : decode b_CX_ways 116 = .ok (.ifCond .ne 42, 3) := by decide +kernel
theorem d_CX_ways_119 : decode b_CX_ways 119 = .ok (.aload 5, 2) := by decide +kernel
theorem d_CX_ways_121 : decode b_CX_ways 121 = .ok (.getfield 199, 3) := by decide +kernel
theorem d_CX_ways_124 : decode b_CX_ways 124 = .ok (.getfield 264, 3) := by decide +kernel
theorem d_CX_ways_127 : decode b_CX_ways 127 = .ok (.aload_n 0, 1) := by decide +kernel
theorem d_CX_ways_128 : decode b_CX_ways 128 = .ok (.iload 4, 2) := by decide +kernel
theorem d_CX_ways_130 : decode b_CX_ways 130 = .ok (.invokevirtual 258, 3) := by decide +kernel
theorem d_CX_ways_133 : decode b_CX_ways 133 = .ok (.getfield 267, 3) := by decide +kernel
theorem d_CX_ways_136 : decode b_CX_ways 136 = .ok (.iadd, 1) := by decide +kernel
theorem d_CX_ways_137 : decode b_CX_ways 137 = .ok (.istore 6, 2) := by decide +kernel
theorem d_CX_ways_139 : decode b_CX_ways 139 = .ok (.iload 6, 2) := by decide +kernel
theorem d_CX_ways_141 : decode b_CX_ways 141 = .ok (.aload 5, 2) := by decide +kernel
theorem d_CX_ways_143 : decode b_CX_ways 143 = .ok (.getfield 267, 3) := by decide +kernel
theorem d_CX_ways_146 : decode b_CX_ways 146 = .ok (.if_icmp .le 12, 3) := by decide +kernel
theorem d_CX_ways_149 : decode b_CX_ways 149 = .ok (.aload 5, 2) := by decide +kernel
theorem d_CX_ways_151 : decode b_CX_ways 151 = .ok (.iload 6, 2) := by decide +kernel
theorem d_CX_ways_153 : decode b_CX_ways 153 = .ok (.putfield 267, 3) := by decide +kernel
theorem d_CX_ways_156 : decode b_CX_ways 156 = .ok (.iconst 1, 1) := by decide +kernel
theorem d_CX_ways_157 : decode b_CX_ways 157 = .ok (.istore_n 2, 1) := by decide +kernel
theorem d_CX_ways_158 : decode b_CX_ways 158 = .ok (.iinc 4 1, 3) := by decide +kernel
theorem d_CX_ways_161 : decode b_CX_ways 161 = .ok (.goto (-87), 3) := by decide +kernel
theorem d_CX_ways_164 : decode b_CX_ways 164 = .ok (.iinc 3 1, 3) := by decide +kernel
theorem d_CX_ways_167 : decode b_CX_ways 167 = .ok (.goto (-108), 3) := by decide +kernel
theorem d_CX_ways_170 : decode b_CX_ways 170 = .ok (.iconst 0, 1) := by decide +kernel
theorem d_CX_ways_171 : decode b_CX_ways 171 = .ok (.istore_n 3, 1) := by decide +kernel
theorem d_CX_ways_172 : decode b_CX_ways 172 = .ok (.iload_n 3, 1) := by decide +kernel
theorem d_CX_ways_173 : decode b_CX_ways 173 = .ok (.aload_n 0, 1) := by decide +kernel
theorem d_CX_ways_174 : decode b_CX_ways 174 = .ok (.getfield 65, 3) := by decide +kernel
theorem d_CX_ways_177 : decode b_CX_ways 177 = .ok (.invokevirtual 113, 3) := by decide +kernel
theorem d_CX_ways_180 : decode b_CX_ways 180 = .ok (.if_icmp .ge 32, 3) := by decide +kernel
theorem d_CX_ways_183 : decode b_CX_ways 183 = .ok (.aload_n 0, 1) := by decide +kernel
theorem d_CX_ways_184 : decode b_CX_ways 184 = .ok (.getfield 65, 3) := by decide +kernel
theorem d_CX_ways_187 : decode b_CX_ways 187 = .ok (.iload_n 3, 1) := by decide +kernel
theorem d_CX_ways_188 : decode b_CX_ways 188 = .ok (.invokevirtual 116, 3) := by decide +kernel
theorem d_CX_ways_191 : decode b_CX_ways 191 = .ok (.checkcast 89, 3) := by decide +kernel
theorem d_CX_ways_194 : decode b_CX_ways 194 = .ok (.astore 4, 2) := by decide +kernel
theorem d_CX_ways_196 : decode b_CX_ways 196 = .ok (.iload_n 1, 1) := by decide +kernel
theorem d_CX_ways_197 : decode b_CX_ways 197 = .ok (.aload 4, 2) := by decide +kernel
theorem d_CX_ways_199 : decode b_CX_ways 199 = .ok (.getfield 267, 3) := by decide +kernel
theorem d_CX_ways_202 : decode b_CX_ways 202 = .ok (.invokestatic 274, 3) := by decide +kernel
theorem d_CX_ways_205 : decode b_CX_ways 205 = .ok (.istore_n 1, 1) := by decide +kernel
theorem d_CX_ways_206 : decode b_CX_ways 206 = .ok (.iinc 3 1, 3) := by decide +kernel
theorem d_CX_ways_209 : decode b_CX_ways 209 = .ok (.goto (-37), 3) := by decide +kernel
theorem d_CX_ways_212 : decode b_CX_ways 212 = .ok (.iload_n 1, 1) := by decide +kernel
theorem d_CX_ways_213 : decode b_CX_ways 213 = .ok (.ireturn, 1) := by decide +kernel
def lp_CX_ways_172 (Q : Int → zS → Prop) : Nat → Int → Int → zS → Prop
  | 0 => fun _ _ _ => False
  | n + 1 => fun v1 v3 σ =>
    zc v3 ∧ zc (σ 40 0) ∧ ((σ 40 0 ≤ v3 →
      Q v1 σ) ∧
     (¬ σ 40 0 ≤ v3 →
      0 ≤ v3 ∧ v3 < σ 40 0 ∧ 
      0 ≤ σ 41 v3 ∧ σ 41 v3 < σ 70 0 ∧ 
      ∀ y10, y10 = σ 41 v3 →
      zc v1 ∧ zc (σ 17 y10) ∧ 
      ∀ y13, y13 = (if v1 < σ 17 y10 then σ 17 y10 else v1) →
      lp_CX_ways_172 Q n y13 (v3 + 1) σ))
def lp_CX_ways_74 (Q : Int → zS → Prop) (J59 : Int → Int → Int → zS → Prop) : Nat → Int → Int → Int → Int → zS → Prop
  | 0 => fun _ _ _ _ _ => False
  | n + 1 => fun v1 v2 v3 v4 σ =>
    zc v4 ∧ zc (4 * (σ 40 0)) ∧ ((4 * (σ 40 0) ≤ v4 →
      J59 v1 v2 (v3 + 1) σ) ∧
     (¬ 4 * (σ 40 0) ≤ v4 →
      0 ≤ v4 ∧ v4 < 196 ∧ 
      ∀ y21, y21 = σ 51 v4 →
      ((y21 < 0 →
        lp_CX_ways_74 Q J59 n v1 v2 v3 (v4 + 1) σ) ∧
       (¬ y21 < 0 →
        0 ≤ y21 ∧ y21 < σ 70 0 ∧ 
        zc (σ 11 y21) ∧ ((σ 11 y21 = 0 →
          lp_CX_ways_74 Q J59 n v1 v2 v3 (v4 + 1) σ) ∧
         (¬ σ 11 y21 = 0 →
          wp_CX_left (fun r26 σ25 =>
            zc r26 ∧ ((r26 = 0 →
              0 ≤ y21 ∧ y21 < σ25 70 0 ∧ 
              0 ≤ σ25 14 y21 ∧ σ25 14 y21 < σ25 71 0 ∧ 
              wp_CX_sink (fun r33 σ32 =>
                0 ≤ r33 ∧ r33 < σ32 70 0 ∧ 
                ∀ y36, y36 = (σ25 23 (σ25 14 y21)) + (σ32 17 r33) →
                0 ≤ y21 ∧ y21 < σ32 70 0 ∧ 
                zc y36 ∧ zc (σ32 17 y21) ∧ ((y36 ≤ σ32 17 y21 →
                  lp_CX_ways_74 Q J59 n v1 v2 v3 (v4 + 1) σ32) ∧
                 (¬ y36 ≤ σ32 17 y21 →
                  ∀ σ41, σ41 = zup σ32 17 y21 y36 →
                  lp_CX_ways_74 Q J59 n v1 1 v3 (v4 + 1) σ41))) v4 σ25) ∧
             (¬ r26 = 0 →
              lp_CX_ways_74 Q J59 n v1 v2 v3 (v4 + 1) σ25))) v4 σ))))))
def lp_CX_ways_59 (Q : Int → zS → Prop) : Nat → Int → Int → Int → zS → Prop
  | 0 => fun _ _ _ _ => False
  | n + 1 => fun v1 v2 v3 σ =>
    zc v2 ∧ ((v2 = 0 →
      ∃ u172, lp_CX_ways_172 Q u172 v1 0 σ) ∧
     (¬ v2 = 0 →
      zc v3 ∧ ((48 < v3 →
        ∃ u172, lp_CX_ways_172 Q u172 v1 0 σ) ∧
       (¬ 48 < v3 →
        ∃ u74, lp_CX_ways_74 Q (lp_CX_ways_59 Q n) u74 v1 0 v3 0 σ))))
def bk_CX_ways_46 (Q : Int → zS → Prop) (J4 : Int → Int → zS → Prop) (v1 : Int) (v2 : Int) (z0 : Int) (z1 : Int) (σ : zS) : Prop :=
  0 ≤ z1 ∧ z1 < σ 70 0 ∧ ∀ σ50, σ50 = zup σ 17 z1 z0 →
  J4 v1 (v2 + 1) σ50
def lp_CX_ways_4 (Q : Int → zS → Prop) : Nat → Int → Int → zS → Prop
  | 0 => fun _ _ _ => False
  | n + 1 => fun v1 v2 σ =>
    zc v2 ∧ zc (σ 40 0) ∧ ((σ 40 0 ≤ v2 →
      ∃ u59, lp_CX_ways_59 Q u59 v1 1 0 σ) ∧
     (¬ σ 40 0 ≤ v2 →
      0 ≤ v2 ∧ v2 < σ 40 0 ∧ 
      0 ≤ σ 41 v2 ∧ σ 41 v2 < σ 70 0 ∧ 
      ∀ y48, y48 = σ 41 v2 →
      zc (σ 11 y48) ∧ ((σ 11 y48 = 0 →
        bk_CX_ways_46 Q (lp_CX_ways_4 Q n) v1 v2 0 y48 σ) ∧
       (¬ σ 11 y48 = 0 →
        0 ≤ σ 14 y48 ∧ σ 14 y48 < σ 71 0 ∧ 
        bk_CX_ways_46 Q (lp_CX_ways_4 Q n) v1 v2 (σ 23 (σ 14 y48)) y48 σ))))
def wp_CX_ways (Q : Int → zS → Prop) (σ : zS) : Prop :=
  ∃ u4, lp_CX_ways_4 Q u4 0 0 σ
set_option maxHeartbeats 4000000 in
set_option maxRecDepth 100000 in
theorem wk_CX_ways_172 {E : zE} {D : va_G} {g : zG} {A : Nat → Prop} {ad : zA} {Q : Int → zS → Prop} (C : zX E b_CX_ways R_CX D g { frames := 5, cells := 0, slots := 0, locals := 108 } 7) (R : zRt E (some .int) (zQi D g ad Q A) 0 0 A) (S : zSt g A (zst E) (zst E).heap) : ∀ (n : Nat) (v1 : Int) (v3 : Int) (σ : zS), lp_CX_ways_172 Q n v1 v3 σ → zW E (zOK D A (zst E) g ad) 0 0 172 [(0, .ref (ad (0, 0))), (1, .int (zi v1)), (3, .int (zi v3))] [] σ := by
  intro n
  induction n with
  | zero =>
    intro v1 v3 σ h
    exact h.elim
  | succ n ih =>
    intro v1 v3 σ h
    refine z_iload_n C (pc := 172) d_CX_ways_172 2 rfl ?_
    refine z_aload_n C (pc := 173) d_CX_ways_173 0 rfl ?_
    refine x_getX (v := .ref (ad (1, 0))) C 1 (by decide) rfl wd_86 (pc := 174) d_CX_ways_174 ?_
    refine x_size (P := True) C S 0 (by decide) wd_146 ⟨Nat.le_of_ble_eq_true rfl, Nat.le_of_ble_eq_true rfl⟩ (Nat.le_of_ble_eq_true rfl) (pc := 177) d_CX_ways_177 ?_
    obtain ⟨hc4, hc5, h⟩ := h
    refine z_icmp_ge (tgt := 212) C (pc := 180) d_CX_ways_180 (by decide) hc4 hc5 h (fun h => ?_) (fun h => ?_)
    · refine z_iload_n C (pc := 212) d_CX_ways_212 1 rfl ?_
      exact z_iret C R (pc := 213) d_CX_ways_213 h
    · refine z_aload_n C (pc := 183) d_CX_ways_183 0 rfl ?_
      refine x_getX (v := .ref (ad (1, 0))) C 1 (by decide) rfl wd_86 (pc := 184) d_CX_ways_184 ?_
      refine z_iload_n C (pc := 187) d_CX_ways_187 2 rfl ?_
      obtain ⟨hc6, hc7, h⟩ := h
      refine x_lget C S 0 (by decide) hc6 hc7 wd_306 ⟨Nat.le_of_ble_eq_true rfl, Nat.le_of_ble_eq_true rfl⟩ (Nat.le_of_ble_eq_true rfl) (pc := 188) d_CX_ways_188 ?_
      obtain ⟨hc8, hc9, h⟩ := h
      refine x_castN C wd_83 (Or.inr ⟨hc8, hc9⟩) (pc := 191) d_CX_ways_191 ?_
      refine zNz h (fun y10 ey10 h => ?_)
      refine z_astoreZ (L' := [(4, zr ad 4 y10), (0, .ref (ad (0, 0))), (1, .int (zi v1)), (3, .int (zi v3))]) C (pc := 194) d_CX_ways_194 (by decide) rfl ?_
      refine z_iload_n C (pc := 196) d_CX_ways_196 2 rfl ?_
      refine z_aloadZ C (pc := 197) d_CX_ways_197 0 rfl ?_
      refine x_getN (v := .int (zi (σ 17 y10))) C 17 (by decide) (by rw [ey10]; exact hc8) (by rw [ey10]; exact hc9) rfl wd_201 (pc := 199) d_CX_ways_199 ?_
      obtain ⟨hc11, hc12, h⟩ := h
      refine x_mmax C wd_597 ⟨Nat.le_of_ble_eq_true rfl, Nat.le_of_ble_eq_true rfl, Nat.zero_le _, Nat.zero_le _⟩ hc11 hc12 (Nat.le_of_ble_eq_true rfl) (pc := 202) d_CX_ways_202 ?_
      refine zNi h (fun y13 ey13 h => ?_)
      refine z_istore_n (L' := [(1, .int (zi y13)), (4, zr ad 4 y10), (0, .ref (ad (0, 0))), (3, .int (zi v3))]) C (pc := 205) d_CX_ways_205 (by decide) rfl ?_
      refine z_iinc (L' := [(3, .int (zi (v3 + 1))), (1, .int (zi y13)), (4, zr ad 4 y10), (0, .ref (ad (0, 0)))]) C (pc := 206) d_CX_ways_206 3 rfl (by decide) rfl ?_
      refine z_goto (tgt := 172) C (pc := 209) d_CX_ways_209 (by decide) ?_
      refine z_sub [3, 1, 0] rfl ?_
      exact ih _ _ _ h
set_option maxHeartbeats 4000000 in
set_option maxRecDepth 100000 in
theorem wk_CX_ways_74 {E : zE} {D : va_G} {g : zG} {A : Nat → Prop} {ad : zA} {Q : Int → zS → Prop} {J59 : Int → Int → Int → zS → Prop} (C : zX E b_CX_ways R_CX D g { frames := 5, cells := 0, slots := 0, locals := 108 } 7) (R : zRt E (some .int) (zQi D g ad Q A) 0 0 A) (S : zSt g A (zst E) (zst E).heap) (hJ59 : ∀ (v1 : Int) (v2 : Int) (v3 : Int) (σ : zS), J59 v1 v2 v3 σ → zW E (zOK D A (zst E) g ad) 0 0 59 [(0, .ref (ad (0, 0))), (1, .int (zi v1)), (2, .int (zi v2)), (3, .int (zi v3))] [] σ) : ∀ (n : Nat) (v1 : Int) (v2 : Int) (v3 : Int) (v4 : Int) (σ : zS), lp_CX_ways_74 Q J59 n v1 v2 v3 v4 σ → zW E (zOK D A (zst E) g ad) 0 0 74 [(0, .ref (ad (0, 0))), (1, .int (zi v1)), (2, .int (zi v2)), (3, .int (zi v3)), (4, .int (zi v4))] [] σ := by
  intro n
  induction n with
  | zero =>
    intro v1 v2 v3 v4 σ h
    exact h.elim
  | succ n ih =>
    intro v1 v2 v3 v4 σ h
    refine z_iload C (pc := 74) d_CX_ways_74 4 rfl ?_
    refine z_iconst C (pc := 76) d_CX_ways_76 ?_
    refine z_aload_n C (pc := 77) d_CX_ways_77 0 rfl ?_
    refine x_getX (v := .ref (ad (1, 0))) C 1 (by decide) rfl wd_86 (pc := 78) d_CX_ways_78 ?_
    refine x_size (P := True) C S 0 (by decide) wd_146 ⟨Nat.le_of_ble_eq_true rfl, Nat.le_of_ble_eq_true rfl⟩ (Nat.le_of_ble_eq_true rfl) (pc := 81) d_CX_ways_81 ?_
    refine z_imul C (pc := 84) d_CX_ways_84 ?_
    obtain ⟨hc17, hc18, h⟩ := h
    refine z_icmp_ge (tgt := 164) C (pc := 85) d_CX_ways_85 (by decide) hc17 hc18 h (fun h => ?_) (fun h => ?_)
    · refine z_iinc (L' := [(3, .int (zi (v3 + 1))), (0, .ref (ad (0, 0))), (1, .int (zi v1)), (2, .int (zi v2)), (4, .int (zi v4))]) C (pc := 164) d_CX_ways_164 3 rfl (by decide) rfl ?_
      refine z_goto (tgt := 59) C (pc := 167) d_CX_ways_167 (by decide) ?_
      refine z_sub [1, 2, 3, 0] rfl ?_
      exact hJ59 _ _ _ _ h
    · refine z_aload_n C (pc := 88) d_CX_ways_88 0 rfl ?_
      refine x_getX (v := .ref (ad (3, 1))) C 10 (by decide) rfl wd_95 (pc := 89) d_CX_ways_89 ?_
      refine z_iload C (pc := 92) d_CX_ways_92 4 rfl ?_
      obtain ⟨hc19, hc20, h⟩ := h
      refine x_aald C 1 (by decide) hc19 hc20 (pc := 94) d_CX_ways_94 ?_
      refine zNz h (fun y21 ey21 h => ?_)
      refine z_astoreZ (L' := [(5, zr ad 4 y21), (0, .ref (ad (0, 0))), (1, .int (zi v1)), (2, .int (zi v2)), (3, .int (zi v3)), (4, .int (zi v4))]) C (pc := 95) d_CX_ways_95 (by decide) rfl ?_
      refine z_aloadZ C (pc := 97) d_CX_ways_97 0 rfl ?_
      refine z_ifnull (tgt := 158) C (pc := 99) d_CX_ways_99 (by decide) h (fun h => ?_) (fun h => ?_)
      · refine z_iinc (L' := [(4, .int (zi (v4 + 1))), (5, zr ad 4 y21), (0, .ref (ad (0, 0))), (1, .int (zi v1)), (2, .int (zi v2)), (3, .int (zi v3))]) C (pc := 158) d_CX_ways_158 5 rfl (by decide) rfl ?_
        refine z_goto (tgt := 74) C (pc := 161) d_CX_ways_161 (by decide) ?_
        refine z_sub [2, 3, 4, 5, 0] rfl ?_
        exact ih _ _ _ _ _ h
      · refine z_aloadZ C (pc := 102) d_CX_ways_102 0 rfl ?_
        obtain ⟨hc22, hc23, h⟩ := h
        refine x_getN (v := .int (zi (σ 11 y21))) C 11 (by decide) hc22 hc23 rfl wd_193 (pc := 104) d_CX_ways_104 ?_
        obtain ⟨hc24, h⟩ := h
        refine z_if_eq (tgt := 158) C (pc := 107) d_CX_ways_107 (by decide) hc24 h (fun h => ?_) (fun h => ?_)
        · refine z_iinc (L' := [(4, .int (zi (v4 + 1))), (5, zr ad 4 y21), (0, .ref (ad (0, 0))), (1, .int (zi v1)), (2, .int (zi v2)), (3, .int (zi v3))]) C (pc := 158) d_CX_ways_158 5 rfl (by decide) rfl ?_
          refine z_goto (tgt := 74) C (pc := 161) d_CX_ways_161 (by decide) ?_
          refine z_sub [2, 3, 4, 5, 0] rfl ?_
          exact ih _ _ _ _ _ h
        · refine z_aload_n C (pc := 110) d_CX_ways_110 1 rfl ?_
          refine z_iload C (pc := 111) d_CX_ways_111 5 rfl ?_
          refine x_callVi (As := [.int (zi v4)]) (st := []) C S fy_CX_left (0, 0) (zids_fix zfix_0) rfl rfl wd_589 (pc := 113) d_CX_ways_113 ⟨rfl, rfl, Nat.le_of_ble_eq_true rfl, Nat.le_of_ble_eq_true rfl⟩ rfl rfl (Nat.le_of_ble_eq_true rfl) h (c_CX_left (zln E) D g ad _ _ _) (fun r26 σ25 h => ?_)
          obtain ⟨hc27, h⟩ := h
          refine z_if_ne (tgt := 158) C (pc := 116) d_CX_ways_116 (by decide) hc27 h (fun h => ?_) (fun h => ?_)
          · refine z_iinc (L' := [(4, .int (zi (v4 + 1))), (5, zr ad 4 y21), (0, .ref (ad (0, 0))), (1, .int (zi v1)), (2, .int (zi v2)), (3, .int (zi v3))]) C (pc := 158) d_CX_ways_158 5 rfl (by decide) rfl ?_
            refine z_goto (tgt := 74) C (pc := 161) d_CX_ways_161 (by decide) ?_
            refine z_sub [2, 3, 4, 5, 0] rfl ?_
            exact ih _ _ _ _ _ h
          · refine z_aloadZ C (pc := 119) d_CX_ways_119 0 rfl ?_
            obtain ⟨hc28, hc29, h⟩ := h
            refine x_getN (v := zr ad 5 (σ25 14 y21)) C 14 (by decide) hc28 hc29 rfl wd_198 (pc := 121) d_CX_ways_121 ?_
            obtain ⟨hc30, hc31, h⟩ := h
            refine x_getC (v := .int (zi (σ25 23 (σ25 14 y21)))) C 3 (by decide) hc30 hc31 rfl wd_435 (pc := 124) d_CX_ways_124 ?_
            refine z_aload_n C (pc := 127) d_CX_ways_127 1 rfl ?_
            refine z_iload C (pc := 128) d_CX_ways_128 5 rfl ?_
            refine x_callVr (As := [.int (zi v4)]) (st := [.int (zi (σ25 23 (σ25 14 y21)))]) C S fy_CX_sink (0, 0) (zids_fix zfix_0) rfl rfl wd_593 (pc := 130) d_CX_ways_130 ⟨rfl, rfl, Nat.le_of_ble_eq_true rfl, Nat.le_of_ble_eq_true rfl⟩ rfl rfl (Nat.le_of_ble_eq_true rfl) h (c_CX_sink (zln E) D g ad _ _ _) (fun r33 σ32 h => ?_)
            obtain ⟨hc34, hc35, h⟩ := h
            refine x_getN (v := .int (zi (σ32 17 r33))) C 17 (by decide) hc34 hc35 rfl wd_201 (pc := 133) d_CX_ways_133 ?_
            refine z_iadd C (pc := 136) d_CX_ways_136 ?_
            refine zNi h (fun y36 ey36 h => ?_)
            refine z_istore (L' := [(6, .int (zi y36)), (5, zr ad 4 y21), (0, .ref (ad (0, 0))), (1, .int (zi v1)), (2, .int (zi v2)), (3, .int (zi v3)), (4, .int (zi v4))]) C (pc := 137) d_CX_ways_137 (by decide) (congrArg (List.cons _) (flt_eq (j := 6) rfl (List.forall_mem_singleton.mpr (zr_cat _ _ _)) rfl)) ?_
            refine z_iload C (pc := 139) d_CX_ways_139 0 rfl ?_
            refine z_aloadZ C (pc := 141) d_CX_ways_141 1 rfl ?_
            obtain ⟨hc37, hc38, h⟩ := h
            refine x_getN (v := .int (zi (σ32 17 y21))) C 17 (by decide) hc37 hc38 rfl wd_201 (pc := 143) d_CX_ways_143 ?_
            obtain ⟨hc39, hc40, h⟩ := h
            refine z_icmp_le (tgt := 158) C (pc := 146) d_CX_ways_146 (by decide) hc39 hc40 h (fun h => ?_) (fun h => ?_)
            · refine z_iinc (L' := [(4, .int (zi (v4 + 1))), (6, .int (zi y36)), (5, zr ad 4 y21), (0, .ref (ad (0, 0))), (1, .int (zi v1)), (2, .int (zi v2)), (3, .int (zi v3))]) C (pc := 158) d_CX_ways_158 6 rfl (by decide) rfl ?_
              refine z_goto (tgt := 74) C (pc := 161) d_CX_ways_161 (by decide) ?_
              refine z_sub [3, 4, 5, 6, 0] rfl ?_
              exact ih _ _ _ _ _ h
            · refine z_aloadZ C (pc := 149) d_CX_ways_149 1 rfl ?_
              refine z_iload C (pc := 151) d_CX_ways_151 0 rfl ?_
              refine x_putN (v := y36) C 17 (by decide) hc37 hc38 rfl ⟨rfl, rfl⟩ rfl wd_201 (pc := 153) d_CX_ways_153 ?_
              refine zN h (fun σ41 eσ41 h => ?_)
              refine z_iconst C (pc := 156) d_CX_ways_156 ?_
              refine z_istore_n (L' := [(2, .int (zi 1)), (6, .int (zi y36)), (5, zr ad 4 y21), (0, .ref (ad (0, 0))), (1, .int (zi v1)), (3, .int (zi v3)), (4, .int (zi v4))]) C (pc := 157) d_CX_ways_157 (by decide) rfl ?_
              refine z_iinc (L' := [(4, .int (zi (v4 + 1))), (2, .int (zi 1)), (6, .int (zi y36)), (5, zr ad 4 y21), (0, .ref (ad (0, 0))), (1, .int (zi v1)), (3, .int (zi v3))]) C (pc := 158) d_CX_ways_158 6 rfl (by decide) rfl ?_
              refine z_goto (tgt := 74) C (pc := 161) d_CX_ways_161 (by decide) ?_
              refine z_sub [4, 5, 1, 6, 0] rfl ?_
              exact ih _ _ _ _ _ h
set_option maxHeartbeats 4000000 in
set_option maxRecDepth 100000 in
theorem wk_CX_ways_59 {E : zE} {D : va_G} {g : zG} {A : Nat → Prop} {ad : zA} {Q : Int → zS → Prop} (C : zX E b_CX_ways R_CX D g { frames := 5, cells := 0, slots := 0, locals := 108 } 7) (R : zRt E (some .int) (zQi D g ad Q A) 0 0 A) (S : zSt g A (zst E) (zst E).heap) : ∀ (n : Nat) (v1 : Int) (v2 : Int) (v3 : Int) (σ : zS), lp_CX_ways_59 Q n v1 v2 v3 σ → zW E (zOK D A (zst E) g ad) 0 0 59 [(0, .ref (ad (0, 0))), (1, .int (zi v1)), (2, .int (zi v2)), (3, .int (zi v3))] [] σ := by
  intro n
  induction n with
  | zero =>
    intro v1 v2 v3 σ h
    exact h.elim
  | succ n ih =>
    intro v1 v2 v3 σ h
    refine z_iload_n C (pc := 59) d_CX_ways_59 2 rfl ?_
    obtain ⟨hc3, h⟩ := h
    refine z_if_eq (tgt := 170) C (pc := 60) d_CX_ways_60 (by decide) hc3 h (fun h => ?_) (fun h => ?_)
    · refine z_iconst C (pc := 170) d_CX_ways_170 ?_
      refine z_istore_n (L' := [(3, .int (zi 0)), (0, .ref (ad (0, 0))), (1, .int (zi v1)), (2, .int (zi v2))]) C (pc := 171) d_CX_ways_171 (by decide) rfl ?_
      refine z_sub [1, 2, 0] rfl ?_
      obtain ⟨n14, h⟩ := h
      exact wk_CX_ways_172 C R S n14 _ _ _ h
    · refine z_iload_n C (pc := 63) d_CX_ways_63 3 rfl ?_
      refine z_bipush C (pc := 64) d_CX_ways_64 (by decide) ?_
      obtain ⟨hc15, h⟩ := h
      refine z_icmp_gt (tgt := 170) C (pc := 66) d_CX_ways_66 (by decide) hc15 (by decide) h (fun h => ?_) (fun h => ?_)
      · refine z_iconst C (pc := 170) d_CX_ways_170 ?_
        refine z_istore_n (L' := [(3, .int (zi 0)), (0, .ref (ad (0, 0))), (1, .int (zi v1)), (2, .int (zi v2))]) C (pc := 171) d_CX_ways_171 (by decide) rfl ?_
        refine z_sub [1, 2, 0] rfl ?_
        obtain ⟨n16, h⟩ := h
        exact wk_CX_ways_172 C R S n16 _ _ _ h
      · refine z_iconst C (pc := 69) d_CX_ways_69 ?_
        refine z_istore_n (L' := [(2, .int (zi 0)), (0, .ref (ad (0, 0))), (1, .int (zi v1)), (3, .int (zi v3))]) C (pc := 70) d_CX_ways_70 (by decide) rfl ?_
        refine z_iconst C (pc := 71) d_CX_ways_71 ?_
        refine z_istore (L' := [(4, .int (zi 0)), (2, .int (zi 0)), (0, .ref (ad (0, 0))), (1, .int (zi v1)), (3, .int (zi v3))]) C (pc := 72) d_CX_ways_72 (by decide) rfl ?_
        refine z_sub [2, 3, 1, 4, 0] rfl ?_
        obtain ⟨n42, h⟩ := h
        exact wk_CX_ways_74 C R S ih n42 _ _ _ _ _ h
set_option maxHeartbeats 4000000 in
set_option maxRecDepth 100000 in
theorem wk_CX_ways_46 {E : zE} {D : va_G} {g : zG} {A : Nat → Prop} {ad : zA} {Q : Int → zS → Prop} {J4 : Int → Int → zS → Prop} (C : zX E b_CX_ways R_CX D g { frames := 5, cells := 0, slots := 0, locals := 108 } 7) (R : zRt E (some .int) (zQi D g ad Q A) 0 0 A) (S : zSt g A (zst E) (zst E).heap) (hJ4 : ∀ (v1 : Int) (v2 : Int) (σ : zS), J4 v1 v2 σ → zW E (zOK D A (zst E) g ad) 0 0 4 [(0, .ref (ad (0, 0))), (1, .int (zi v1)), (2, .int (zi v2))] [] σ) (v1 : Int) (v2 : Int) (z0 : Int) (z1 : Int) (σ : zS) (h : bk_CX_ways_46 Q J4 v1 v2 z0 z1 σ) : zW E (zOK D A (zst E) g ad) 0 0 46 [(0, .ref (ad (0, 0))), (1, .int (zi v1)), (2, .int (zi v2))] [.int (zi z0), zr ad 4 z1] σ := by
  unfold bk_CX_ways_46 at h
  obtain ⟨hc51, hc52, h⟩ := h
  refine x_putN (v := z0) C 17 (by decide) hc51 hc52 rfl ⟨rfl, rfl⟩ rfl wd_201 (pc := 46) d_CX_ways_46 ?_
  refine zN h (fun σ50 eσ50 h => ?_)
  refine z_iinc (L' := [(2, .int (zi (v2 + 1))), (0, .ref (ad (0, 0))), (1, .int (zi v1))]) C (pc := 49) d_CX_ways_49 2 rfl (by decide) rfl ?_
  refine z_goto (tgt := 4) C (pc := 52) d_CX_ways_52 (by decide) ?_
  refine z_sub [1, 2, 0] rfl ?_
  exact hJ4 _ _ _ h
set_option maxHeartbeats 4000000 in
set_option maxRecDepth 100000 in
theorem wk_CX_ways_4 {E : zE} {D : va_G} {g : zG} {A : Nat → Prop} {ad : zA} {Q : Int → zS → Prop} (C : zX E b_CX_ways R_CX D g { frames := 5, cells := 0, slots := 0, locals := 108 } 7) (R : zRt E (some .int) (zQi D g ad Q A) 0 0 A) (S : zSt g A (zst E) (zst E).heap) : ∀ (n : Nat) (v1 : Int) (v2 : Int) (σ : zS), lp_CX_ways_4 Q n v1 v2 σ → zW E (zOK D A (zst E) g ad) 0 0 4 [(0, .ref (ad (0, 0))), (1, .int (zi v1)), (2, .int (zi v2))] [] σ := by
  intro n
  induction n with
  | zero =>
    intro v1 v2 σ h
    exact h.elim
  | succ n ih =>
    intro v1 v2 σ h
    refine z_iload_n C (pc := 4) d_CX_ways_4 2 rfl ?_
    refine z_aload_n C (pc := 5) d_CX_ways_5 0 rfl ?_
    refine x_getX (v := .ref (ad (1, 0))) C 1 (by decide) rfl wd_86 (pc := 6) d_CX_ways_6 ?_
    refine x_size (P := True) C S 0 (by decide) wd_146 ⟨Nat.le_of_ble_eq_true rfl, Nat.le_of_ble_eq_true rfl⟩ (Nat.le_of_ble_eq_true rfl) (pc := 9) d_CX_ways_9 ?_
    obtain ⟨hc1, hc2, h⟩ := h
    refine z_icmp_ge (tgt := 55) C (pc := 12) d_CX_ways_12 (by decide) hc1 hc2 h (fun h => ?_) (fun h => ?_)
    · refine z_iconst C (pc := 55) d_CX_ways_55 ?_
      refine z_istore_n (L' := [(2, .int (zi 1)), (0, .ref (ad (0, 0))), (1, .int (zi v1))]) C (pc := 56) d_CX_ways_56 (by decide) rfl ?_
      refine z_iconst C (pc := 57) d_CX_ways_57 ?_
      refine z_istore_n (L' := [(3, .int (zi 0)), (2, .int (zi 1)), (0, .ref (ad (0, 0))), (1, .int (zi v1))]) C (pc := 58) d_CX_ways_58 (by decide) rfl ?_
      refine z_sub [2, 3, 1, 0] rfl ?_
      obtain ⟨n43, h⟩ := h
      exact wk_CX_ways_59 C R S n43 _ _ _ _ h
    · refine z_aload_n C (pc := 15) d_CX_ways_15 0 rfl ?_
      refine x_getX (v := .ref (ad (1, 0))) C 1 (by decide) rfl wd_86 (pc := 16) d_CX_ways_16 ?_
      refine z_iload_n C (pc := 19) d_CX_ways_19 2 rfl ?_
      obtain ⟨hc44, hc45, h⟩ := h
      refine x_lget C S 0 (by decide) hc44 hc45 wd_306 ⟨Nat.le_of_ble_eq_true rfl, Nat.le_of_ble_eq_true rfl⟩ (Nat.le_of_ble_eq_true rfl) (pc := 20) d_CX_ways_20 ?_
      obtain ⟨hc46, hc47, h⟩ := h
      refine x_castN C wd_83 (Or.inr ⟨hc46, hc47⟩) (pc := 23) d_CX_ways_23 ?_
      refine zNz h (fun y48 ey48 h => ?_)
      refine z_astoreZ_n (L' := [(3, zr ad 4 y48), (0, .ref (ad (0, 0))), (1, .int (zi v1)), (2, .int (zi v2))]) C (pc := 26) d_CX_ways_26 (by decide) rfl ?_
      refine z_aloadZ_n C (pc := 27) d_CX_ways_27 0 rfl ?_
      refine z_aloadZ_n C (pc := 28) d_CX_ways_28 0 rfl ?_
      refine x_getN (v := .int (zi (σ 11 y48))) C 11 (by decide) (by rw [ey48]; exact hc46) (by rw [ey48]; exact hc47) rfl wd_193 (pc := 29) d_CX_ways_29 ?_
      obtain ⟨hc49, h⟩ := h
      refine z_if_eq (tgt := 45) C (pc := 32) d_CX_ways_32 (by decide) hc49 h (fun h => ?_) (fun h => ?_)
      · refine z_iconst C (pc := 45) d_CX_ways_45 ?_
        refine z_sub [1, 2, 3] rfl ?_
        exact wk_CX_ways_46 C R S ih _ _ _ _ _ h
      · refine z_aloadZ_n C (pc := 35) d_CX_ways_35 0 rfl ?_
        refine x_getN (v := zr ad 5 (σ 14 y48)) C 14 (by decide) (by rw [ey48]; exact hc46) (by rw [ey48]; exact hc47) rfl wd_198 (pc := 36) d_CX_ways_36 ?_
        obtain ⟨hc53, hc54, h⟩ := h
        refine x_getC (v := .int (zi (σ 23 (σ 14 y48)))) C 3 (by decide) hc53 hc54 rfl wd_435 (pc := 39) d_CX_ways_39 ?_
        refine z_goto (tgt := 46) C (pc := 42) d_CX_ways_42 (by decide) ?_
        refine z_sub [1, 2, 3] rfl ?_
        exact wk_CX_ways_46 C R S ih _ _ _ _ _ h
set_option maxHeartbeats 4000000 in
set_option maxRecDepth 100000 in
theorem c_CX_ways (l : Launch) (D : va_G) (g : zG) (ad : zA) (Q : Int → zS → Prop) (σ : zS) (h : wp_CX_ways Q σ) : zGi l y_CX_ways b_CX_ways 7 (some .int) { frames := 5, cells := 0, slots := 0, locals := 108 } D g ad σ [.ref (ad (0, 0))] Q := by
  unfold wp_CX_ways at h
  refine zN_of (by decide) (Nat.le_of_ble_eq_true rfl) (fun E C R S => ?_)
  have C : zX E b_CX_ways R_CX D g { frames := 5, cells := 0, slots := 0, locals := 108 } 7 := C
  refine z_sub (L' := [(0, .ref (ad (0, 0)))]) [0] rfl ?_
  refine z_iconst C (pc := 0) d_CX_ways_0 ?_
  refine z_istore_n (L' := [(1, .int (zi 0)), (0, .ref (ad (0, 0)))]) C (pc := 1) d_CX_ways_1 (by decide) rfl ?_
  refine z_iconst C (pc := 2) d_CX_ways_2 ?_
  refine z_istore_n (L' := [(2, .int (zi 0)), (1, .int (zi 0)), (0, .ref (ad (0, 0)))]) C (pc := 3) d_CX_ways_3 (by decide) rfl ?_
  refine z_sub [2, 1, 0] rfl ?_
  obtain ⟨n55, h⟩ := h
  exact wk_CX_ways_4 C R S n55 _ _ _ h
theorem d_CX_lacking_0 : decode b_CX_lacking 0 = .ok (.iconst 0, 1) := by decide +kernel
theorem d_CX_lacking_1 : decode b_CX_lacking 1 = .ok (.istore_n 1, 1) := by decide +kernel
theorem d_CX_lacking_2 : decode b_CX_lacking 2 = .ok (.iload_n 1, 1) := by decide +kernel
theorem d_CX_lacking_3 : decode b_CX_lacking 3 = .ok (.aload_n 0, 1) := by decide +kernel
theorem d_CX_lacking_4 : decode b_CX_lacking 4 = .ok (.getfield 95, 3) := by decide +kernel
theorem d_CX_lacking_7 : decode b_CX_lacking 7 = .ok (.arraylength, 1) := by decide +kernel
theorem d_CX_lacking_8 : decode b_CX_lacking 8 = .ok (.if_icmp .ge 28, 3) := by decide +kernel
theorem d_CX_lacking_11 : decode b_CX_lacking 11 = .ok (.aload_n 0, 1) := by decide +kernel
theorem d_CX_lacking_12 : decode b_CX_lacking 12 = .ok (.getfield 95, 3) := by decide +kernel
theorem d_CX_lacking_15 : decode b_CX_lacking 15 = .ok (.iload_n 1, 1) := by decide +kernel
theorem d_CX_lacking_16 : decode b_CX_lacking 16 = .ok (.aaload, 1) := by decide +kernel
theorem d_CX_lacking_17 : decode b_CX_lacking 17 = .ok (.ifnull 13, 3) := by decide +kernel
theorem d_CX_lacking_20 : decode b_CX_lacking 20 = .ok (.aload_n 0, 1) := by decide +kernel
theorem d_CX_lacking_21 : decode b_CX_lacking 21 = .ok (.iload_n 1, 1) := by decide +kernel
theorem d_CX_lacking_22 : decode b_CX_lacking 22 = .ok (.invokevirtual 270, 3) := by decide +kernel
theorem d_CX_lacking_25 : decode b_CX_lacking 25 = .ok (.ifCond .ge 5, 3) := by decide +kernel
theorem d_CX_lacking_28 : decode b_CX_lacking 28 = .ok (.iconst 1, 1) := by decide +kernel
theorem d_CX_lacking_29 : decode b_CX_lacking 29 = .ok (.ireturn, 1) := by decide +kernel
theorem d_CX_lacking_30 : decode b_CX_lacking 30 = .ok (.iinc 1 1, 3) := by decide +kernel
theorem d_CX_lacking_33 : decode b_CX_lacking 33 = .ok (.goto (-31), 3) := by decide +kernel
theorem d_CX_lacking_36 : decode b_CX_lacking 36 = .ok (.iconst 0, 1) := by decide +kernel
theorem d_CX_lacking_37 : decode b_CX_lacking 37 = .ok (.ireturn, 1) := by decide +kernel
def lp_CX_lacking_2 (Q : Int → zS → Prop) : Nat → Int → zS → Prop
  | 0 => fun _ _ => False
  | n + 1 => fun v1 σ =>
    zc v1 ∧ ((196 ≤ v1 →
      Q 0 σ) ∧
     (¬ 196 ≤ v1 →
      0 ≤ v1 ∧ v1 < 196 ∧ 
      ((σ 51 v1 < 0 →
        lp_CX_lacking_2 Q n (v1 + 1) σ) ∧
       (¬ σ 51 v1 < 0 →
        wp_CX_left (fun r5 σ4 =>
          zc r5 ∧ ((0 ≤ r5 →
            lp_CX_lacking_2 Q n (v1 + 1) σ4) ∧
           (¬ 0 ≤ r5 →
            Q 1 σ4))) v1 σ))))
def wp_CX_lacking (Q : Int → zS → Prop) (σ : zS) : Prop :=
  ∃ u2, lp_CX_lacking_2 Q u2 0 σ
set_option maxHeartbeats 4000000 in
set_option maxRecDepth 100000 in
theorem wk_CX_lacking_2 {E : zE} {D : va_G} {g : zG} {A : Nat → Prop} {ad : zA} {Q : Int → zS → Prop} (C : zX E b_CX_lacking R_CX D g { frames := 5, cells := 0, slots := 0, locals := 108 } 2) (R : zRt E (some .boolean) (zQi D g ad Q A) 0 0 A) (S : zSt g A (zst E) (zst E).heap) : ∀ (n : Nat) (v1 : Int) (σ : zS), lp_CX_lacking_2 Q n v1 σ → zW E (zOK D A (zst E) g ad) 0 0 2 [(0, .ref (ad (0, 0))), (1, .int (zi v1))] [] σ := by
  intro n
  induction n with
  | zero =>
    intro v1 σ h
    exact h.elim
  | succ n ih =>
    intro v1 σ h
    refine z_iload_n C (pc := 2) d_CX_lacking_2 1 rfl ?_
    refine z_aload_n C (pc := 3) d_CX_lacking_3 0 rfl ?_
    refine x_getX (v := .ref (ad (3, 1))) C 10 (by decide) rfl wd_95 (pc := 4) d_CX_lacking_4 ?_
    refine x_alen C 1 (by decide) (pc := 7) d_CX_lacking_7 ?_
    obtain ⟨hc1, h⟩ := h
    refine z_icmp_ge (tgt := 36) C (pc := 8) d_CX_lacking_8 (by decide) hc1 (by decide) h (fun h => ?_) (fun h => ?_)
    · refine z_iconst C (pc := 36) d_CX_lacking_36 ?_
      exact z_zret C R (pc := 37) d_CX_lacking_37 (by decide) h
    · refine z_aload_n C (pc := 11) d_CX_lacking_11 0 rfl ?_
      refine x_getX (v := .ref (ad (3, 1))) C 10 (by decide) rfl wd_95 (pc := 12) d_CX_lacking_12 ?_
      refine z_iload_n C (pc := 15) d_CX_lacking_15 1 rfl ?_
      obtain ⟨hc2, hc3, h⟩ := h
      refine x_aald C 1 (by decide) hc2 hc3 (pc := 16) d_CX_lacking_16 ?_
      refine z_ifnull (tgt := 30) C (pc := 17) d_CX_lacking_17 (by decide) h (fun h => ?_) (fun h => ?_)
      · refine z_iinc (L' := [(1, .int (zi (v1 + 1))), (0, .ref (ad (0, 0)))]) C (pc := 30) d_CX_lacking_30 1 rfl (by decide) rfl ?_
        refine z_goto (tgt := 2) C (pc := 33) d_CX_lacking_33 (by decide) ?_
        refine z_sub [1, 0] rfl ?_
        exact ih _ _ h
      · refine z_aload_n C (pc := 20) d_CX_lacking_20 0 rfl ?_
        refine z_iload_n C (pc := 21) d_CX_lacking_21 1 rfl ?_
        refine x_callVi (As := [.int (zi v1)]) (st := []) C S fy_CX_left (0, 0) (zids_fix zfix_0) rfl rfl wd_589 (pc := 22) d_CX_lacking_22 ⟨rfl, rfl, Nat.le_of_ble_eq_true rfl, Nat.le_of_ble_eq_true rfl⟩ rfl rfl (Nat.le_of_ble_eq_true rfl) h (c_CX_left (zln E) D g ad _ _ _) (fun r5 σ4 h => ?_)
        obtain ⟨hc6, h⟩ := h
        refine z_if_ge (tgt := 30) C (pc := 25) d_CX_lacking_25 (by decide) hc6 h (fun h => ?_) (fun h => ?_)
        · refine z_iinc (L' := [(1, .int (zi (v1 + 1))), (0, .ref (ad (0, 0)))]) C (pc := 30) d_CX_lacking_30 1 rfl (by decide) rfl ?_
          refine z_goto (tgt := 2) C (pc := 33) d_CX_lacking_33 (by decide) ?_
          refine z_sub [1, 0] rfl ?_
          exact ih _ _ h
        · refine z_iconst C (pc := 28) d_CX_lacking_28 ?_
          exact z_zret C R (pc := 29) d_CX_lacking_29 (by decide) h
set_option maxHeartbeats 4000000 in
set_option maxRecDepth 100000 in
theorem c_CX_lacking (l : Launch) (D : va_G) (g : zG) (ad : zA) (Q : Int → zS → Prop) (σ : zS) (h : wp_CX_lacking Q σ) : zGi l y_CX_lacking b_CX_lacking 2 (some .boolean) { frames := 5, cells := 0, slots := 0, locals := 108 } D g ad σ [.ref (ad (0, 0))] Q := by
  unfold wp_CX_lacking at h
  refine zN_of (by decide) (Nat.le_of_ble_eq_true rfl) (fun E C R S => ?_)
  have C : zX E b_CX_lacking R_CX D g { frames := 5, cells := 0, slots := 0, locals := 108 } 2 := C
  refine z_sub (L' := [(0, .ref (ad (0, 0)))]) [0] rfl ?_
  refine z_iconst C (pc := 0) d_CX_lacking_0 ?_
  refine z_istore_n (L' := [(1, .int (zi 0)), (0, .ref (ad (0, 0)))]) C (pc := 1) d_CX_lacking_1 (by decide) rfl ?_
  refine z_sub [1, 0] rfl ?_
  obtain ⟨n7, h⟩ := h
  exact wk_CX_lacking_2 C R S n7 _ _ h
theorem d_CX_reachable_0 : decode b_CX_reachable 0 = .ok (.iconst 0, 1) := by decide +kernel
theorem d_CX_reachable_1 : decode b_CX_reachable 1 = .ok (.istore_n 2, 1) := by decide +kernel
theorem d_CX_reachable_2 : decode b_CX_reachable 2 = .ok (.iload_n 2, 1) := by decide +kernel
theorem d_CX_reachable_3 : decode b_CX_reachable 3 = .ok (.aload_n 0, 1) := by decide +kernel
theorem d_CX_reachable_4 : decode b_CX_reachable 4 = .ok (.getfield 65, 3) := by decide +kernel
theorem d_CX_reachable_7 : decode b_CX_reachable 7 = .ok (.invokevirtual 113, 3) := by decide +kernel
theorem d_CX_reachable_10 : decode b_CX_reachable 10 = .ok (.if_icmp .ge 26, 3) := by decide +kernel
theorem d_CX_reachable_13 : decode b_CX_reachable 13 = .ok (.aload_n 0, 1) := by decide +kernel
theorem d_CX_reachable_14 : decode b_CX_reachable 14 = .ok (.getfield 65, 3) := by decide +kernel
theorem d_CX_reachable_17 : decode b_CX_reachable 17 = .ok (.iload_n 2, 1) := by decide +kernel
theorem d_CX_reachable_18 : decode b_CX_reachable 18 = .ok (.invokevirtual 116, 3) := by decide +kernel
theorem d_CX_reachable_21 : decode b_CX_reachable 21 = .ok (.checkcast 89, 3) := by decide +kernel
theorem d_CX_reachable_24 : decode b_CX_reachable 24 = .ok (.astore_n 3, 1) := by decide +kernel
theorem d_CX_reachable_25 : decode b_CX_reachable 25 = .ok (.aload_n 3, 1) := by decide +kernel
theorem d_CX_reachable_26 : decode b_CX_reachable 26 = .ok (.iconst 0, 1) := by decide +kernel
theorem d_CX_reachable_27 : decode b_CX_reachable 27 = .ok (.putfield 261, 3) := by decide +kernel
theorem d_CX_reachable_30 : decode b_CX_reachable 30 = .ok (.iinc 2 1, 3) := by decide +kernel
theorem d_CX_reachable_33 : decode b_CX_reachable 33 = .ok (.goto (-31), 3) := by decide +kernel
theorem d_CX_reachable_36 : decode b_CX_reachable 36 = .ok (.iconst 0, 1) := by decide +kernel
theorem d_CX_reachable_37 : decode b_CX_reachable 37 = .ok (.istore_n 2, 1) := by decide +kernel
theorem d_CX_reachable_38 : decode b_CX_reachable 38 = .ok (.iload_n 2, 1) := by decide +kernel
theorem d_CX_reachable_39 : decode b_CX_reachable 39 = .ok (.sipush 2304, 3) := by decide +kernel
theorem d_CX_reachable_42 : decode b_CX_reachable 42 = .ok (.if_icmp .gt 94, 3) := by decide +kernel
theorem d_CX_reachable_45 : decode b_CX_reachable 45 = .ok (.aload_n 0, 1) := by decide +kernel
theorem d_CX_reachable_46 : decode b_CX_reachable 46 = .ok (.invokevirtual 277, 3) := by decide +kernel
theorem d_CX_reachable_49 : decode b_CX_reachable 49 = .ok (.iload_n 1, 1) := by decide +kernel
theorem d_CX_reachable_50 : decode b_CX_reachable 50 = .ok (.if_icmp .gt 5, 3) := by decide +kernel
theorem d_CX_reachable_53 : decode b_CX_reachable 53 = .ok (.iconst 1, 1) := by decide +kernel
theorem d_CX_reachable_54 : decode b_CX_reachable 54 = .ok (.ireturn, 1) := by decide +kernel
theorem d_CX_reachable_55 : decode b_CX_reachable 55 = .ok (.iconst 0, 1) := by decide +kernel
theorem d_CX_reachable_56 : decode b_CX_reachable 56 = .ok (.istore_n 3, 1) := by decide +kernel
theorem d_CX_reachable_57 : decode b_CX_reachable 57 = .ok (.iload_n 3, 1) := by decide +kernel
theorem d_CX_reachable_58 : decode b_CX_reachable 58 = .ok (.aload_n 0, 1) := by decide +kernel
theorem d_CX_reachable_59 : decode b_CX_reachable 59 = .ok (.getfield 65, 3) := by decide +kernel
theorem d_CX_reachable_62 : decode b_CX_reachable 62 = .ok (.invokevirtual 113, 3) := by decide +kernel
theorem d_CX_reachable_65 : decode b_CX_reachable 65 = .ok (.if_icmp .ge 56, 3) := by decide +kernel
theorem d_CX_reachable_68 : decode b_CX_reachable 68 = .ok (.aload_n 0, 1) := by decide +kernel
theorem d_CX_reachable_69 : decode b_CX_reachable 69 = .ok (.getfield 65, 3) := by decide +kernel
theorem d_CX_reachable_72 : decode b_CX_reachable 72 = .ok (.iload_n 3, 1) := by decide +kernel
theorem d_CX_reachable_73 : decode b_CX_reachable 73 = .ok (.invokevirtual 116, 3) := by decide +kernel
theorem d_CX_reachable_76 : decode b_CX_reachable 76 = .ok (.checkcast 89, 3) := by decide +kernel
theorem d_CX_reachable_79 : decode b_CX_reachable 79 = .ok (.astore 4, 2) := by decide +kernel
theorem d_CX_reachable_81 : decode b_CX_reachable 81 = .ok (.aload 4, 2) := by decide +kernel
theorem d_CX_reachable_83 : decode b_CX_reachable 83 = .ok (.getfield 267, 3) := by decide +kernel
theorem d_CX_reachable_86 : decode b_CX_reachable 86 = .ok (.iload_n 1, 1) := by decide +kernel
theorem d_CX_reachable_87 : decode b_CX_reachable 87 = .ok (.if_icmp .le 14, 3) := by decide +kernel
theorem d_CX_reachable_90 : decode b_CX_reachable 90 = .ok (.aload 4, 2) := by decide +kernel
theorem d_CX_reachable_92 : decode b_CX_reachable 92 = .ok (.dup, 1) := by decide +kernel
theorem d_CX_reachable_93 : decode b_CX_reachable 93 = .ok (.getfield 261, 3) := by decide +kernel
theorem d_CX_reachable_96 : decode b_CX_reachable 96 = .ok (.iconst 1, 1) := by decide +kernel
theorem d_CX_reachable_97 : decode b_CX_reachable 97 = .ok (.iadd, 1) := by decide +kernel
theorem d_CX_reachable_98 : decode b_CX_reachable 98 = .ok (.putfield 261, 3) := by decide +kernel
theorem d_CX_reachable_101 : decode b_CX_reachable 101 = .ok (.aload 4, 2) := by decide +kernel
theorem d_CX_reachable_103 : decode b_CX_reachable 103 = .ok (.getfield 261, 3) := by decide +kernel
theorem d_CX_reachable_106 : decode b_CX_reachable 106 = .ok (.aload_n 0, 1) := by decide +kernel
theorem d_CX_reachable_107 : decode b_CX_reachable 107 = .ok (.getfield 240, 3) := by decide +kernel
theorem d_CX_reachable_110 : decode b_CX_reachable 110 = .ok (.if_icmp .le 5, 3) := by decide +kernel
theorem d_CX_reachable_113 : decode b_CX_reachable 113 = .ok (.iconst 0, 1) := by decide +kernel
theorem d_CX_reachable_114 : decode b_CX_reachable 114 = .ok (.ireturn, 1) := by decide +kernel
theorem d_CX_reachable_115 : decode b_CX_reachable 115 = .ok (.iinc 3 1, 3) := by decide +kernel
theorem d_CX_reachable_118 : decode b_CX_reachable 118 = .ok (.goto (-61), 3) := by decide +kernel
theorem d_CX_reachable_121 : decode b_CX_reachable 121 = .ok (.aload_n 0, 1) := by decide +kernel
theorem d_CX_reachable_122 : decode b_CX_reachable 122 = .ok (.invokevirtual 280, 3) := by decide +kernel
theorem d_CX_reachable_125 : decode b_CX_reachable 125 = .ok (.ifCond .eq 5, 3) := by decide +kernel
theorem d_CX_reachable_128 : decode b_CX_reachable 128 = .ok (.iconst 0, 1) := by decide +kernel
theorem d_CX_reachable_129 : decode b_CX_reachable 129 = .ok (.ireturn, 1) := by decide +kernel
theorem d_CX_reachable_130 : decode b_CX_reachable 130 = .ok (.iinc 2 1, 3) := by decide +kernel
theorem d_CX_reachable_133 : decode b_CX_reachable 133 = .ok (.goto (-95), 3) := by decide +kernel
theorem d_CX_reachable_136 : decode b_CX_reachable 136 = .ok (.iconst 0, 1) := by decide +kernel
theorem d_CX_reachable_137 : decode b_CX_reachable 137 = .ok (.ireturn, 1) := by decide +kernel
def bk_CX_reachable_101 (Q : Int → zS → Prop) (J38 : Int → Int → zS → Prop) (J57 : Int → Int → Int → zS → Prop) (v1 : Int) (v2 : Int) (v3 : Int) (v4 : Int) (σ : zS) : Prop :=
  0 ≤ v4 ∧ v4 < σ 70 0 ∧ 
  zc (σ 15 v4) ∧ zc (σ 57 0) ∧ ((σ 15 v4 ≤ σ 57 0 →
    J57 v1 v2 (v3 + 1) σ) ∧
   (¬ σ 15 v4 ≤ σ 57 0 →
    Q 0 σ))
def lp_CX_reachable_57 (Q : Int → zS → Prop) (J38 : Int → Int → zS → Prop) : Nat → Int → Int → Int → zS → Prop
  | 0 => fun _ _ _ _ => False
  | n + 1 => fun v1 v2 v3 σ =>
    zc v3 ∧ zc (σ 40 0) ∧ ((σ 40 0 ≤ v3 →
      wp_CX_lacking (fun r11 σ10 =>
        zc r11 ∧ ((r11 = 0 →
          J38 v1 (v2 + 1) σ10) ∧
         (¬ r11 = 0 →
          Q 0 σ10))) σ) ∧
     (¬ σ 40 0 ≤ v3 →
      0 ≤ v3 ∧ v3 < σ 40 0 ∧ 
      0 ≤ σ 41 v3 ∧ σ 41 v3 < σ 70 0 ∧ 
      ∀ y17, y17 = σ 41 v3 →
      zc (σ 17 y17) ∧ zc v1 ∧ ((σ 17 y17 ≤ v1 →
        bk_CX_reachable_101 Q J38 (lp_CX_reachable_57 Q J38 n) v1 v2 v3 y17 σ) ∧
       (¬ σ 17 y17 ≤ v1 →
        ∀ σ24, σ24 = zup σ 15 y17 ((σ 15 y17) + 1) →
        bk_CX_reachable_101 Q J38 (lp_CX_reachable_57 Q J38 n) v1 v2 v3 y17 σ24))))
def lp_CX_reachable_38 (Q : Int → zS → Prop) : Nat → Int → Int → zS → Prop
  | 0 => fun _ _ _ => False
  | n + 1 => fun v1 v2 σ =>
    zc v2 ∧ ((2304 < v2 →
      Q 0 σ) ∧
     (¬ 2304 < v2 →
      wp_CX_ways (fun r5 σ4 =>
        zc r5 ∧ zc v1 ∧ ((v1 < r5 →
          ∃ u57, lp_CX_reachable_57 Q (lp_CX_reachable_38 Q n) u57 v1 v2 0 σ4) ∧
         (¬ v1 < r5 →
          Q 1 σ4))) σ))
def lp_CX_reachable_2 (Q : Int → zS → Prop) : Nat → Int → Int → zS → Prop
  | 0 => fun _ _ _ => False
  | n + 1 => fun v1 v2 σ =>
    zc v2 ∧ zc (σ 40 0) ∧ ((σ 40 0 ≤ v2 →
      ∃ u38, lp_CX_reachable_38 Q u38 v1 0 σ) ∧
     (¬ σ 40 0 ≤ v2 →
      0 ≤ v2 ∧ v2 < σ 40 0 ∧ 
      0 ≤ σ 41 v2 ∧ σ 41 v2 < σ 70 0 ∧ 
      ∀ y31, y31 = σ 41 v2 →
      ∀ σ32, σ32 = zup σ 15 y31 0 →
      lp_CX_reachable_2 Q n v1 (v2 + 1) σ32))
def wp_CX_reachable (Q : Int → zS → Prop) (v1 : Int) (σ : zS) : Prop :=
  ∃ u2, lp_CX_reachable_2 Q u2 v1 0 σ
set_option maxHeartbeats 4000000 in
set_option maxRecDepth 100000 in
theorem wk_CX_reachable_101 {E : zE} {D : va_G} {g : zG} {A : Nat → Prop} {ad : zA} {Q : Int → zS → Prop} {J38 : Int → Int → zS → Prop} {J57 : Int → Int → Int → zS → Prop} (C : zX E b_CX_reachable R_CX D g { frames := 6, cells := 0, slots := 0, locals := 134 } 5) (R : zRt E (some .boolean) (zQi D g ad Q A) 0 0 A) (S : zSt g A (zst E) (zst E).heap) (hJ38 : ∀ (v1 : Int) (v2 : Int) (σ : zS), J38 v1 v2 σ → zW E (zOK D A (zst E) g ad) 0 0 38 [(0, .ref (ad (0, 0))), (1, .int (zi v1)), (2, .int (zi v2))] [] σ) (hJ57 : ∀ (v1 : Int) (v2 : Int) (v3 : Int) (σ : zS), J57 v1 v2 v3 σ → zW E (zOK D A (zst E) g ad) 0 0 57 [(0, .ref (ad (0, 0))), (1, .int (zi v1)), (2, .int (zi v2)), (3, .int (zi v3))] [] σ) (v1 : Int) (v2 : Int) (v3 : Int) (v4 : Int) (σ : zS) (h : bk_CX_reachable_101 Q J38 J57 v1 v2 v3 v4 σ) : zW E (zOK D A (zst E) g ad) 0 0 101 [(0, .ref (ad (0, 0))), (1, .int (zi v1)), (2, .int (zi v2)), (3, .int (zi v3)), (4, zr ad 4 v4)] [] σ := by
  unfold bk_CX_reachable_101 at h
  refine z_aloadZ C (pc := 101) d_CX_reachable_101 4 rfl ?_
  obtain ⟨hc20, hc21, h⟩ := h
  refine x_getN (v := .int (zi (σ 15 v4))) C 15 (by decide) hc20 hc21 rfl wd_199 (pc := 103) d_CX_reachable_103 ?_
  refine z_aload_n C (pc := 106) d_CX_reachable_106 0 rfl ?_
  refine x_getX (v := .int (zi (σ 57 0))) C 14 (by decide) rfl wd_99 (pc := 107) d_CX_reachable_107 ?_
  obtain ⟨hc22, hc23, h⟩ := h
  refine z_icmp_le (tgt := 115) C (pc := 110) d_CX_reachable_110 (by decide) hc22 hc23 h (fun h => ?_) (fun h => ?_)
  · refine z_iinc (L' := [(3, .int (zi (v3 + 1))), (0, .ref (ad (0, 0))), (1, .int (zi v1)), (2, .int (zi v2)), (4, zr ad 4 v4)]) C (pc := 115) d_CX_reachable_115 3 rfl (by decide) rfl ?_
    refine z_goto (tgt := 57) C (pc := 118) d_CX_reachable_118 (by decide) ?_
    refine z_sub [1, 2, 3, 0] rfl ?_
    exact hJ57 _ _ _ _ h
  · refine z_iconst C (pc := 113) d_CX_reachable_113 ?_
    exact z_zret C R (pc := 114) d_CX_reachable_114 (by decide) h
set_option maxHeartbeats 4000000 in
set_option maxRecDepth 100000 in
theorem wk_CX_reachable_57 {E : zE} {D : va_G} {g : zG} {A : Nat → Prop} {ad : zA} {Q : Int → zS → Prop} {J38 : Int → Int → zS → Prop} (C : zX E b_CX_reachable R_CX D g { frames := 6, cells := 0, slots := 0, locals := 134 } 5) (R : zRt E (some .boolean) (zQi D g ad Q A) 0 0 A) (S : zSt g A (zst E) (zst E).heap) (hJ38 : ∀ (v1 : Int) (v2 : Int) (σ : zS), J38 v1 v2 σ → zW E (zOK D A (zst E) g ad) 0 0 38 [(0, .ref (ad (0, 0))), (1, .int (zi v1)), (2, .int (zi v2))] [] σ) : ∀ (n : Nat) (v1 : Int) (v2 : Int) (v3 : Int) (σ : zS), lp_CX_reachable_57 Q J38 n v1 v2 v3 σ → zW E (zOK D A (zst E) g ad) 0 0 57 [(0, .ref (ad (0, 0))), (1, .int (zi v1)), (2, .int (zi v2)), (3, .int (zi v3))] [] σ := by
  intro n
  induction n with
  | zero =>
    intro v1 v2 v3 σ h
    exact h.elim
  | succ n ih =>
    intro v1 v2 v3 σ h
    refine z_iload_n C (pc := 57) d_CX_reachable_57 3 rfl ?_
    refine z_aload_n C (pc := 58) d_CX_reachable_58 0 rfl ?_
    refine x_getX (v := .ref (ad (1, 0))) C 1 (by decide) rfl wd_86 (pc := 59) d_CX_reachable_59 ?_
    refine x_size (P := True) C S 0 (by decide) wd_146 ⟨Nat.le_of_ble_eq_true rfl, Nat.le_of_ble_eq_true rfl⟩ (Nat.le_of_ble_eq_true rfl) (pc := 62) d_CX_reachable_62 ?_
    obtain ⟨hc8, hc9, h⟩ := h
    refine z_icmp_ge (tgt := 121) C (pc := 65) d_CX_reachable_65 (by decide) hc8 hc9 h (fun h => ?_) (fun h => ?_)
    · refine z_aload_n C (pc := 121) d_CX_reachable_121 0 rfl ?_
      refine x_callVi (As := []) (st := []) C S fy_CX_lacking (0, 0) (zids_fix zfix_0) rfl rfl wd_602 (pc := 122) d_CX_reachable_122 ⟨rfl, rfl, Nat.le_of_ble_eq_true rfl, Nat.le_of_ble_eq_true rfl⟩ rfl rfl (Nat.le_of_ble_eq_true rfl) h (c_CX_lacking (zln E) D g ad _ _) (fun r11 σ10 h => ?_)
      obtain ⟨hc12, h⟩ := h
      refine z_if_eq (tgt := 130) C (pc := 125) d_CX_reachable_125 (by decide) hc12 h (fun h => ?_) (fun h => ?_)
      · refine z_iinc (L' := [(2, .int (zi (v2 + 1))), (0, .ref (ad (0, 0))), (1, .int (zi v1)), (3, .int (zi v3))]) C (pc := 130) d_CX_reachable_130 2 rfl (by decide) rfl ?_
        refine z_goto (tgt := 38) C (pc := 133) d_CX_reachable_133 (by decide) ?_
        refine z_sub [1, 2, 0] rfl ?_
        exact hJ38 _ _ _ h
      · refine z_iconst C (pc := 128) d_CX_reachable_128 ?_
        exact z_zret C R (pc := 129) d_CX_reachable_129 (by decide) h
    · refine z_aload_n C (pc := 68) d_CX_reachable_68 0 rfl ?_
      refine x_getX (v := .ref (ad (1, 0))) C 1 (by decide) rfl wd_86 (pc := 69) d_CX_reachable_69 ?_
      refine z_iload_n C (pc := 72) d_CX_reachable_72 3 rfl ?_
      obtain ⟨hc13, hc14, h⟩ := h
      refine x_lget C S 0 (by decide) hc13 hc14 wd_306 ⟨Nat.le_of_ble_eq_true rfl, Nat.le_of_ble_eq_true rfl⟩ (Nat.le_of_ble_eq_true rfl) (pc := 73) d_CX_reachable_73 ?_
      obtain ⟨hc15, hc16, h⟩ := h
      refine x_castN C wd_83 (Or.inr ⟨hc15, hc16⟩) (pc := 76) d_CX_reachable_76 ?_
      refine zNz h (fun y17 ey17 h => ?_)
      refine z_astoreZ (L' := [(4, zr ad 4 y17), (0, .ref (ad (0, 0))), (1, .int (zi v1)), (2, .int (zi v2)), (3, .int (zi v3))]) C (pc := 79) d_CX_reachable_79 (by decide) rfl ?_
      refine z_aloadZ C (pc := 81) d_CX_reachable_81 0 rfl ?_
      refine x_getN (v := .int (zi (σ 17 y17))) C 17 (by decide) (by rw [ey17]; exact hc15) (by rw [ey17]; exact hc16) rfl wd_201 (pc := 83) d_CX_reachable_83 ?_
      refine z_iload_n C (pc := 86) d_CX_reachable_86 2 rfl ?_
      obtain ⟨hc18, hc19, h⟩ := h
      refine z_icmp_le (tgt := 101) C (pc := 87) d_CX_reachable_87 (by decide) hc18 hc19 h (fun h => ?_) (fun h => ?_)
      · refine z_sub [1, 2, 3, 4, 0] rfl ?_
        exact wk_CX_reachable_101 C R S hJ38 ih _ _ _ _ _ h
      · refine z_aloadZ C (pc := 90) d_CX_reachable_90 0 rfl ?_
        refine z_dup C (pc := 92) d_CX_reachable_92 (zr_cat _ _ _) ?_
        refine x_getN (v := .int (zi (σ 15 y17))) C 15 (by decide) (by rw [ey17]; exact hc15) (by rw [ey17]; exact hc16) rfl wd_199 (pc := 93) d_CX_reachable_93 ?_
        refine z_iconst C (pc := 96) d_CX_reachable_96 ?_
        refine z_iadd C (pc := 97) d_CX_reachable_97 ?_
        refine x_putN (v := (σ 15 y17) + 1) C 15 (by decide) (by rw [ey17]; exact hc15) (by rw [ey17]; exact hc16) rfl ⟨rfl, rfl⟩ rfl wd_199 (pc := 98) d_CX_reachable_98 ?_
        refine zN h (fun σ24 eσ24 h => ?_)
        refine z_sub [1, 2, 3, 4, 0] rfl ?_
        exact wk_CX_reachable_101 C R S hJ38 ih _ _ _ _ _ h
set_option maxHeartbeats 4000000 in
set_option maxRecDepth 100000 in
theorem wk_CX_reachable_38 {E : zE} {D : va_G} {g : zG} {A : Nat → Prop} {ad : zA} {Q : Int → zS → Prop} (C : zX E b_CX_reachable R_CX D g { frames := 6, cells := 0, slots := 0, locals := 134 } 5) (R : zRt E (some .boolean) (zQi D g ad Q A) 0 0 A) (S : zSt g A (zst E) (zst E).heap) : ∀ (n : Nat) (v1 : Int) (v2 : Int) (σ : zS), lp_CX_reachable_38 Q n v1 v2 σ → zW E (zOK D A (zst E) g ad) 0 0 38 [(0, .ref (ad (0, 0))), (1, .int (zi v1)), (2, .int (zi v2))] [] σ := by
  intro n
  induction n with
  | zero =>
    intro v1 v2 σ h
    exact h.elim
  | succ n ih =>
    intro v1 v2 σ h
    refine z_iload_n C (pc := 38) d_CX_reachable_38 2 rfl ?_
    refine z_sipush C (pc := 39) d_CX_reachable_39 (by decide) ?_
    obtain ⟨hc3, h⟩ := h
    refine z_icmp_gt (tgt := 136) C (pc := 42) d_CX_reachable_42 (by decide) hc3 (by decide) h (fun h => ?_) (fun h => ?_)
    · refine z_iconst C (pc := 136) d_CX_reachable_136 ?_
      exact z_zret C R (pc := 137) d_CX_reachable_137 (by decide) h
    · refine z_aload_n C (pc := 45) d_CX_reachable_45 0 rfl ?_
      refine x_callVi (As := []) (st := []) C S fy_CX_ways (0, 0) (zids_fix zfix_0) rfl rfl wd_585 (pc := 46) d_CX_reachable_46 ⟨rfl, rfl, Nat.le_of_ble_eq_true rfl, Nat.le_of_ble_eq_true rfl⟩ rfl rfl (Nat.le_of_ble_eq_true rfl) h (c_CX_ways (zln E) D g ad _ _) (fun r5 σ4 h => ?_)
      refine z_iload_n C (pc := 49) d_CX_reachable_49 1 rfl ?_
      obtain ⟨hc6, hc7, h⟩ := h
      refine z_icmp_gt (tgt := 55) C (pc := 50) d_CX_reachable_50 (by decide) hc6 hc7 h (fun h => ?_) (fun h => ?_)
      · refine z_iconst C (pc := 55) d_CX_reachable_55 ?_
        refine z_istore_n (L' := [(3, .int (zi 0)), (0, .ref (ad (0, 0))), (1, .int (zi v1)), (2, .int (zi v2))]) C (pc := 56) d_CX_reachable_56 (by decide) rfl ?_
        refine z_sub [1, 2, 3, 0] rfl ?_
        obtain ⟨n25, h⟩ := h
        exact wk_CX_reachable_57 C R S ih n25 _ _ _ _ h
      · refine z_iconst C (pc := 53) d_CX_reachable_53 ?_
        exact z_zret C R (pc := 54) d_CX_reachable_54 (by decide) h
set_option maxHeartbeats 4000000 in
set_option maxRecDepth 100000 in
theorem wk_CX_reachable_2 {E : zE} {D : va_G} {g : zG} {A : Nat → Prop} {ad : zA} {Q : Int → zS → Prop} (C : zX E b_CX_reachable R_CX D g { frames := 6, cells := 0, slots := 0, locals := 134 } 5) (R : zRt E (some .boolean) (zQi D g ad Q A) 0 0 A) (S : zSt g A (zst E) (zst E).heap) : ∀ (n : Nat) (v1 : Int) (v2 : Int) (σ : zS), lp_CX_reachable_2 Q n v1 v2 σ → zW E (zOK D A (zst E) g ad) 0 0 2 [(0, .ref (ad (0, 0))), (1, .int (zi v1)), (2, .int (zi v2))] [] σ := by
  intro n
  induction n with
  | zero =>
    intro v1 v2 σ h
    exact h.elim
  | succ n ih =>
    intro v1 v2 σ h
    refine z_iload_n C (pc := 2) d_CX_reachable_2 2 rfl ?_
    refine z_aload_n C (pc := 3) d_CX_reachable_3 0 rfl ?_
    refine x_getX (v := .ref (ad (1, 0))) C 1 (by decide) rfl wd_86 (pc := 4) d_CX_reachable_4 ?_
    refine x_size (P := True) C S 0 (by decide) wd_146 ⟨Nat.le_of_ble_eq_true rfl, Nat.le_of_ble_eq_true rfl⟩ (Nat.le_of_ble_eq_true rfl) (pc := 7) d_CX_reachable_7 ?_
    obtain ⟨hc1, hc2, h⟩ := h
    refine z_icmp_ge (tgt := 36) C (pc := 10) d_CX_reachable_10 (by decide) hc1 hc2 h (fun h => ?_) (fun h => ?_)
    · refine z_iconst C (pc := 36) d_CX_reachable_36 ?_
      refine z_istore_n (L' := [(2, .int (zi 0)), (0, .ref (ad (0, 0))), (1, .int (zi v1))]) C (pc := 37) d_CX_reachable_37 (by decide) rfl ?_
      refine z_sub [1, 2, 0] rfl ?_
      obtain ⟨n26, h⟩ := h
      exact wk_CX_reachable_38 C R S n26 _ _ _ h
    · refine z_aload_n C (pc := 13) d_CX_reachable_13 0 rfl ?_
      refine x_getX (v := .ref (ad (1, 0))) C 1 (by decide) rfl wd_86 (pc := 14) d_CX_reachable_14 ?_
      refine z_iload_n C (pc := 17) d_CX_reachable_17 2 rfl ?_
      obtain ⟨hc27, hc28, h⟩ := h
      refine x_lget C S 0 (by decide) hc27 hc28 wd_306 ⟨Nat.le_of_ble_eq_true rfl, Nat.le_of_ble_eq_true rfl⟩ (Nat.le_of_ble_eq_true rfl) (pc := 18) d_CX_reachable_18 ?_
      obtain ⟨hc29, hc30, h⟩ := h
      refine x_castN C wd_83 (Or.inr ⟨hc29, hc30⟩) (pc := 21) d_CX_reachable_21 ?_
      refine zNz h (fun y31 ey31 h => ?_)
      refine z_astoreZ_n (L' := [(3, zr ad 4 y31), (0, .ref (ad (0, 0))), (1, .int (zi v1)), (2, .int (zi v2))]) C (pc := 24) d_CX_reachable_24 (by decide) rfl ?_
      refine z_aloadZ_n C (pc := 25) d_CX_reachable_25 0 rfl ?_
      refine z_iconst C (pc := 26) d_CX_reachable_26 ?_
      refine x_putN (v := 0) C 15 (by decide) (by rw [ey31]; exact hc29) (by rw [ey31]; exact hc30) rfl ⟨rfl, rfl⟩ rfl wd_199 (pc := 27) d_CX_reachable_27 ?_
      refine zN h (fun σ32 eσ32 h => ?_)
      refine z_iinc (L' := [(2, .int (zi (v2 + 1))), (3, zr ad 4 y31), (0, .ref (ad (0, 0))), (1, .int (zi v1))]) C (pc := 30) d_CX_reachable_30 3 rfl (by decide) rfl ?_
      refine z_goto (tgt := 2) C (pc := 33) d_CX_reachable_33 (by decide) ?_
      refine z_sub [2, 3, 0] rfl ?_
      exact ih _ _ _ h
set_option maxHeartbeats 4000000 in
set_option maxRecDepth 100000 in
theorem c_CX_reachable (l : Launch) (D : va_G) (g : zG) (ad : zA) (v1 : Int) (Q : Int → zS → Prop) (σ : zS) (h : wp_CX_reachable Q v1 σ) : zGi l y_CX_reachable b_CX_reachable 5 (some .boolean) { frames := 6, cells := 0, slots := 0, locals := 134 } D g ad σ [.ref (ad (0, 0)), .int (zi v1)] Q := by
  unfold wp_CX_reachable at h
  refine zN_of (by decide) (Nat.le_of_ble_eq_true rfl) (fun E C R S => ?_)
  have C : zX E b_CX_reachable R_CX D g { frames := 6, cells := 0, slots := 0, locals := 134 } 5 := C
  refine z_sub (L' := [(0, .ref (ad (0, 0))), (1, .int (zi v1))]) [0, 1] rfl ?_
  refine z_iconst C (pc := 0) d_CX_reachable_0 ?_
  refine z_istore_n (L' := [(2, .int (zi 0)), (0, .ref (ad (0, 0))), (1, .int (zi v1))]) C (pc := 1) d_CX_reachable_1 (by decide) rfl ?_
  refine z_sub [1, 2, 0] rfl ?_
  obtain ⟨n33, h⟩ := h
  exact wk_CX_reachable_2 C R S n33 _ _ _ h
theorem d_CX_movable_0 : decode b_CX_movable 0 = .ok (.iconst 1, 1) := by decide +kernel
theorem d_CX_movable_1 : decode b_CX_movable 1 = .ok (.istore_n 2, 1) := by decide +kernel
theorem d_CX_movable_2 : decode b_CX_movable 2 = .ok (.iconst 0, 1) := by decide +kernel
theorem d_CX_movable_3 : decode b_CX_movable 3 = .ok (.istore_n 3, 1) := by decide +kernel
theorem d_CX_movable_4 : decode b_CX_movable 4 = .ok (.iload_n 3, 1) := by decide +kernel
theorem d_CX_movable_5 : decode b_CX_movable 5 = .ok (.aload_n 1, 1) := by decide +kernel
theorem d_CX_movable_6 : decode b_CX_movable 6 = .ok (.getfield 199, 3) := by decide +kernel
theorem d_CX_movable_9 : decode b_CX_movable 9 = .ok (.getfield 251, 3) := by decide +kernel
theorem d_CX_movable_12 : decode b_CX_movable 12 = .ok (.if_icmp .ge 35, 3) := by decide +kernel
theorem d_CX_movable_15 : decode b_CX_movable 15 = .ok (.iload_n 2, 1) := by decide +kernel
theorem d_CX_movable_16 : decode b_CX_movable 16 = .ok (.ifCond .eq 23, 3) := by decide +kernel
theorem d_CX_movable_19 : decode b_CX_movable 19 = .ok (.aload_n 0, 1) := by decide +kernel
theorem d_CX_movable_20 : decode b_CX_movable 20 = .ok (.getfield 98, 3) := by decide +kernel
theorem d_CX_movable_23 : decode b_CX_movable 23 = .ok (.iconst 4, 1) := by decide +kernel
theorem d_CX_movable_24 : decode b_CX_movable 24 = .ok (.aload_n 1, 1) := by decide +kernel
theorem d_CX_movable_25 : decode b_CX_movable 25 = .ok (.getfield 175, 3) := by decide +kernel
theorem d_CX_movable_28 : decode b_CX_movable 28 = .ok (.imul, 1) := by decide +kernel
theorem d_CX_movable_29 : decode b_CX_movable 29 = .ok (.iload_n 3, 1) := by decide +kernel
theorem d_CX_movable_30 : decode b_CX_movable 30 = .ok (.iadd, 1) := by decide +kernel
theorem d_CX_movable_31 : decode b_CX_movable 31 = .ok (.iaload, 1) := by decide +kernel
theorem d_CX_movable_32 : decode b_CX_movable 32 = .ok (.ifCond .le 7, 3) := by decide +kernel
theorem d_CX_movable_35 : decode b_CX_movable 35 = .ok (.iconst 1, 1) := by decide +kernel
theorem d_CX_movable_36 : decode b_CX_movable 36 = .ok (.goto 4, 3) := by decide +kernel
theorem d_CX_movable_39 : decode b_CX_movable 39 = .ok (.iconst 0, 1) := by decide +kernel
theorem d_CX_movable_40 : decode b_CX_movable 40 = .ok (.istore_n 2, 1) := by decide +kernel
theorem d_CX_movable_41 : decode b_CX_movable 41 = .ok (.iinc 3 1, 3) := by decide +kernel
theorem d_CX_movable_44 : decode b_CX_movable 44 = .ok (.goto (-40), 3) := by decide +kernel
theorem d_CX_movable_47 : decode b_CX_movable 47 = .ok (.iload_n 2, 1) := by decide +kernel
theorem d_CX_movable_48 : decode b_CX_movable 48 = .ok (.ireturn, 1) := by decide +kernel
def bk_CX_movable_40 (Q : Int → zS → Prop) (J4 : Int → Int → Int → zS → Prop) (v1 : Int) (v3 : Int) (z0 : Int) (σ : zS) : Prop :=
  J4 v1 z0 (v3 + 1) σ
def bk_CX_movable_39 (Q : Int → zS → Prop) (J4 : Int → Int → Int → zS → Prop) (v1 : Int) (v3 : Int) (σ : zS) : Prop :=
  bk_CX_movable_40 Q J4 v1 v3 0 σ
def lp_CX_movable_4 (Q : Int → zS → Prop) : Nat → Int → Int → Int → zS → Prop
  | 0 => fun _ _ _ _ => False
  | n + 1 => fun v1 v2 v3 σ =>
    0 ≤ v1 ∧ v1 < σ 70 0 ∧ 
    0 ≤ σ 14 v1 ∧ σ 14 v1 < σ 71 0 ∧ 
    zc v3 ∧ zc (σ 24 (σ 14 v1)) ∧ ((σ 24 (σ 14 v1) ≤ v3 →
      (v2 = 0 ∨ v2 = 1) ∧ Q v2 σ) ∧
     (¬ σ 24 (σ 14 v1) ≤ v3 →
      zc v2 ∧ ((v2 = 0 →
        bk_CX_movable_39 Q (lp_CX_movable_4 Q n) v1 v3 σ) ∧
       (¬ v2 = 0 →
        0 ≤ (4 * (σ 0 v1)) + v3 ∧ (4 * (σ 0 v1)) + v3 < 196 ∧ 
        zc (σ 52 ((4 * (σ 0 v1)) + v3)) ∧ ((σ 52 ((4 * (σ 0 v1)) + v3) ≤ 0 →
          bk_CX_movable_39 Q (lp_CX_movable_4 Q n) v1 v3 σ) ∧
         (¬ σ 52 ((4 * (σ 0 v1)) + v3) ≤ 0 →
          bk_CX_movable_40 Q (lp_CX_movable_4 Q n) v1 v3 1 σ))))))
def wp_CX_movable (Q : Int → zS → Prop) (v1 : Int) (σ : zS) : Prop :=
  ∃ u4, lp_CX_movable_4 Q u4 v1 1 0 σ
set_option maxHeartbeats 4000000 in
set_option maxRecDepth 100000 in
theorem wk_CX_movable_40 {E : zE} {D : va_G} {g : zG} {A : Nat → Prop} {ad : zA} {Q : Int → zS → Prop} {J4 : Int → Int → Int → zS → Prop} (C : zX E b_CX_movable R_CX D g { frames := 0, cells := 0, slots := 0, locals := 0 } 4) (R : zRt E (some .boolean) (zQi D g ad Q A) 0 0 A) (S : zSt g A (zst E) (zst E).heap) (hJ4 : ∀ (v1 : Int) (v2 : Int) (v3 : Int) (σ : zS), J4 v1 v2 v3 σ → zW E (zOK D A (zst E) g ad) 0 0 4 [(0, .ref (ad (0, 0))), (1, zr ad 4 v1), (2, .int (zi v2)), (3, .int (zi v3))] [] σ) (v1 : Int) (v3 : Int) (z0 : Int) (σ : zS) (h : bk_CX_movable_40 Q J4 v1 v3 z0 σ) : zW E (zOK D A (zst E) g ad) 0 0 40 [(0, .ref (ad (0, 0))), (1, zr ad 4 v1), (3, .int (zi v3))] [.int (zi z0)] σ := by
  unfold bk_CX_movable_40 at h
  refine z_istore_n (L' := [(2, .int (zi z0)), (0, .ref (ad (0, 0))), (1, zr ad 4 v1), (3, .int (zi v3))]) C (pc := 40) d_CX_movable_40 (by decide) (congrArg (List.cons _) (flt_eq (j := 2) rfl (List.forall_mem_singleton.mpr (zr_cat _ _ _)) rfl)) ?_
  refine z_iinc (L' := [(3, .int (zi (v3 + 1))), (2, .int (zi z0)), (0, .ref (ad (0, 0))), (1, zr ad 4 v1)]) C (pc := 41) d_CX_movable_41 3 rfl (by decide) rfl ?_
  refine z_goto (tgt := 4) C (pc := 44) d_CX_movable_44 (by decide) ?_
  refine z_sub [2, 3, 1, 0] rfl ?_
  exact hJ4 _ _ _ _ h
set_option maxHeartbeats 4000000 in
set_option maxRecDepth 100000 in
theorem wk_CX_movable_39 {E : zE} {D : va_G} {g : zG} {A : Nat → Prop} {ad : zA} {Q : Int → zS → Prop} {J4 : Int → Int → Int → zS → Prop} (C : zX E b_CX_movable R_CX D g { frames := 0, cells := 0, slots := 0, locals := 0 } 4) (R : zRt E (some .boolean) (zQi D g ad Q A) 0 0 A) (S : zSt g A (zst E) (zst E).heap) (hJ4 : ∀ (v1 : Int) (v2 : Int) (v3 : Int) (σ : zS), J4 v1 v2 v3 σ → zW E (zOK D A (zst E) g ad) 0 0 4 [(0, .ref (ad (0, 0))), (1, zr ad 4 v1), (2, .int (zi v2)), (3, .int (zi v3))] [] σ) (v1 : Int) (v3 : Int) (σ : zS) (h : bk_CX_movable_39 Q J4 v1 v3 σ) : zW E (zOK D A (zst E) g ad) 0 0 39 [(0, .ref (ad (0, 0))), (1, zr ad 4 v1), (3, .int (zi v3))] [] σ := by
  unfold bk_CX_movable_39 at h
  refine z_iconst C (pc := 39) d_CX_movable_39 ?_
  exact wk_CX_movable_40 C R S hJ4 _ _ _ _ h
set_option maxHeartbeats 4000000 in
set_option maxRecDepth 100000 in
theorem wk_CX_movable_4 {E : zE} {D : va_G} {g : zG} {A : Nat → Prop} {ad : zA} {Q : Int → zS → Prop} (C : zX E b_CX_movable R_CX D g { frames := 0, cells := 0, slots := 0, locals := 0 } 4) (R : zRt E (some .boolean) (zQi D g ad Q A) 0 0 A) (S : zSt g A (zst E) (zst E).heap) : ∀ (n : Nat) (v1 : Int) (v2 : Int) (v3 : Int) (σ : zS), lp_CX_movable_4 Q n v1 v2 v3 σ → zW E (zOK D A (zst E) g ad) 0 0 4 [(0, .ref (ad (0, 0))), (1, zr ad 4 v1), (2, .int (zi v2)), (3, .int (zi v3))] [] σ := by
  intro n
  induction n with
  | zero =>
    intro v1 v2 v3 σ h
    exact h.elim
  | succ n ih =>
    intro v1 v2 v3 σ h
    refine z_iload_n C (pc := 4) d_CX_movable_4 3 rfl ?_
    refine z_aloadZ_n C (pc := 5) d_CX_movable_5 1 rfl ?_
    obtain ⟨hc1, hc2, h⟩ := h
    refine x_getN (v := zr ad 5 (σ 14 v1)) C 14 (by decide) hc1 hc2 rfl wd_198 (pc := 6) d_CX_movable_6 ?_
    obtain ⟨hc3, hc4, h⟩ := h
    refine x_getC (v := .int (zi (σ 24 (σ 14 v1)))) C 4 (by decide) hc3 hc4 rfl wd_437 (pc := 9) d_CX_movable_9 ?_
    obtain ⟨hc5, hc6, h⟩ := h
    refine z_icmp_ge (tgt := 47) C (pc := 12) d_CX_movable_12 (by decide) hc5 hc6 h (fun h => ?_) (fun h => ?_)
    · refine z_iload_n C (pc := 47) d_CX_movable_47 2 rfl ?_
      exact z_zret C R (pc := 48) d_CX_movable_48 h.1 h.2
    · refine z_iload_n C (pc := 15) d_CX_movable_15 2 rfl ?_
      obtain ⟨hc7, h⟩ := h
      refine z_if_eq (tgt := 39) C (pc := 16) d_CX_movable_16 (by decide) hc7 h (fun h => ?_) (fun h => ?_)
      · refine z_sub [0, 1, 3] rfl ?_
        exact wk_CX_movable_39 C R S ih _ _ _ h
      · refine z_aload_n C (pc := 19) d_CX_movable_19 0 rfl ?_
        refine x_getX (v := .ref (ad (3, 2))) C 11 (by decide) rfl wd_96 (pc := 20) d_CX_movable_20 ?_
        refine z_iconst C (pc := 23) d_CX_movable_23 ?_
        refine z_aloadZ_n C (pc := 24) d_CX_movable_24 1 rfl ?_
        refine x_getN (v := .int (zi (σ 0 v1))) C 0 (by decide) hc1 hc2 rfl wd_167 (pc := 25) d_CX_movable_25 ?_
        refine z_imul C (pc := 28) d_CX_movable_28 ?_
        refine z_iload_n C (pc := 29) d_CX_movable_29 3 rfl ?_
        refine z_iadd C (pc := 30) d_CX_movable_30 ?_
        obtain ⟨hc8, hc9, h⟩ := h
        refine x_iald C hc8 hc9 (pc := 31) d_CX_movable_31 ?_
        obtain ⟨hc10, h⟩ := h
        refine z_if_le (tgt := 39) C (pc := 32) d_CX_movable_32 (by decide) hc10 h (fun h => ?_) (fun h => ?_)
        · refine z_sub [0, 1, 3] rfl ?_
          exact wk_CX_movable_39 C R S ih _ _ _ h
        · refine z_iconst C (pc := 35) d_CX_movable_35 ?_
          refine z_goto (tgt := 40) C (pc := 36) d_CX_movable_36 (by decide) ?_
          refine z_sub [0, 1, 3] rfl ?_
          exact wk_CX_movable_40 C R S ih _ _ _ _ h
set_option maxHeartbeats 4000000 in
set_option maxRecDepth 100000 in
theorem c_CX_movable (l : Launch) (D : va_G) (g : zG) (ad : zA) (v1 : Int) (Q : Int → zS → Prop) (σ : zS) (h : wp_CX_movable Q v1 σ) : zGi l y_CX_movable b_CX_movable 4 (some .boolean) { frames := 0, cells := 0, slots := 0, locals := 0 } D g ad σ [.ref (ad (0, 0)), zr ad 4 v1] Q := by
  unfold wp_CX_movable at h
  refine zN_of (by decide) (by simp [lg_sl, zr_cat, kv_cat, cat_i, cat_l, cat_r]) (fun E C R S => ?_)
  have C : zX E b_CX_movable R_CX D g { frames := 0, cells := 0, slots := 0, locals := 0 } 4 := C
  refine z_sub (L' := [(0, .ref (ad (0, 0))), (1, zr ad 4 v1)]) [0, 1] (by simp [lv_args, lv_pick, zr_cat, kv_cat, cat_i, cat_l, cat_r]) ?_
  refine z_iconst C (pc := 0) d_CX_movable_0 ?_
  refine z_istore_n (L' := [(2, .int (zi 1)), (0, .ref (ad (0, 0))), (1, zr ad 4 v1)]) C (pc := 1) d_CX_movable_1 (by decide) (congrArg (List.cons _) (flt_eq (j := 2) rfl (List.forall_mem_singleton.mpr (zr_cat _ _ _)) rfl)) ?_
  refine z_iconst C (pc := 2) d_CX_movable_2 ?_
  refine z_istore_n (L' := [(3, .int (zi 0)), (2, .int (zi 1)), (0, .ref (ad (0, 0))), (1, zr ad 4 v1)]) C (pc := 3) d_CX_movable_3 (by decide) rfl ?_
  refine z_sub [2, 3, 1, 0] rfl ?_
  obtain ⟨n11, h⟩ := h
  exact wk_CX_movable_4 C R S n11 _ _ _ _ h
theorem d_CX_restart_0 : decode b_CX_restart 0 = .ok (.aload_n 0, 1) := by decide +kernel
theorem d_CX_restart_1 : decode b_CX_restart 1 = .ok (.getfield 102, 3) := by decide +kernel
theorem d_CX_restart_4 : decode b_CX_restart 4 = .ok (.iconst 0, 1) := by decide +kernel
theorem d_CX_restart_5 : decode b_CX_restart 5 = .ok (.aload_n 0, 1) := by decide +kernel
theorem d_CX_restart_6 : decode b_CX_restart 6 = .ok (.getfield 106, 3) := by decide +kernel
theorem d_CX_restart_9 : decode b_CX_restart 9 = .ok (.iconst 0, 1) := by decide +kernel
theorem d_CX_restart_10 : decode b_CX_restart 10 = .ok (.aload_n 0, 1) := by decide +kernel
theorem d_CX_restart_11 : decode b_CX_restart 11 = .ok (.getfield 106, 3) := by decide +kernel
theorem d_CX_restart_14 : decode b_CX_restart 14 = .ok (.arraylength, 1) := by decide +kernel
theorem d_CX_restart_15 : decode b_CX_restart 15 = .ok (.invokestatic 323, 3) := by decide +kernel
theorem d_CX_restart_18 : decode b_CX_restart 18 = .ok (.return_, 1) := by decide +kernel
def wp_CX_restart (Q : zS → Prop) (σ : zS) : Prop :=
  ∀ σ1, σ1 = zcopy σ →
  Q σ1
set_option maxHeartbeats 4000000 in
set_option maxRecDepth 100000 in
theorem c_CX_restart (l : Launch) (D : va_G) (g : zG) (ad : zA) (Q : zS → Prop) (σ : zS) (h : wp_CX_restart Q σ) : zGv l y_CX_restart b_CX_restart 1 none { frames := 1, cells := 0, slots := 0, locals := 60 } D g ad σ [.ref (ad (0, 0))] Q := by
  unfold wp_CX_restart at h
  refine zN_of (by decide) (Nat.le_of_ble_eq_true rfl) (fun E C R S => ?_)
  have C : zX E b_CX_restart R_CX D g { frames := 1, cells := 0, slots := 0, locals := 60 } 1 := C
  refine z_sub (L' := [(0, .ref (ad (0, 0)))]) [0] rfl ?_
  refine z_aload_n C (pc := 0) d_CX_restart_0 0 rfl ?_
  refine x_getX (v := .ref (ad (3, 3))) C 12 (by decide) rfl wd_97 (pc := 1) d_CX_restart_1 ?_
  refine z_iconst C (pc := 4) d_CX_restart_4 ?_
  refine z_aload_n C (pc := 5) d_CX_restart_5 0 rfl ?_
  refine x_getX (v := .ref (ad (3, 4))) C 13 (by decide) rfl wd_98 (pc := 6) d_CX_restart_6 ?_
  refine z_iconst C (pc := 9) d_CX_restart_9 ?_
  refine z_aload_n C (pc := 10) d_CX_restart_10 0 rfl ?_
  refine x_getX (v := .ref (ad (3, 4))) C 13 (by decide) rfl wd_98 (pc := 11) d_CX_restart_11 ?_
  refine x_alen C 4 (by decide) (pc := 14) d_CX_restart_14 ?_
  refine x_copy C wd_641 ⟨Nat.le_of_ble_eq_true rfl, Nat.le_of_ble_eq_true rfl⟩ (pc := 15) d_CX_restart_15 ?_
  refine zN h (fun σ1 eσ1 h => ?_)
  exact z_vret C R (pc := 18) d_CX_restart_18 h
theorem d_CX_area_0 : decode b_CX_area 0 = .ok (.aload_n 0, 1) := by decide +kernel
theorem d_CX_area_1 : decode b_CX_area 1 = .ok (.getfield 109, 3) := by decide +kernel
theorem d_CX_area_4 : decode b_CX_area 4 = .ok (.ifCond .eq 10, 3) := by decide +kernel
theorem d_CX_area_7 : decode b_CX_area 7 = .ok (.aload_n 0, 1) := by decide +kernel
theorem d_CX_area_8 : decode b_CX_area 8 = .ok (.getfield 243, 3) := by decide +kernel
theorem d_CX_area_11 : decode b_CX_area 11 = .ok (.goto 5, 3) := by decide +kernel
theorem d_CX_area_14 : decode b_CX_area 14 = .ok (.bipush (-6), 2) := by decide +kernel
theorem d_CX_area_16 : decode b_CX_area 16 = .ok (.ireturn, 1) := by decide +kernel
def wp_CX_area (Q : Int → zS → Prop) (σ : zS) : Prop :=
  zc (σ 56 0) ∧ ((σ 56 0 = 0 →
    Q (-6) σ) ∧
   (¬ σ 56 0 = 0 →
    Q (σ 58 0) σ))
set_option maxHeartbeats 4000000 in
set_option maxRecDepth 100000 in
theorem c_CX_area (l : Launch) (D : va_G) (g : zG) (ad : zA) (Q : Int → zS → Prop) (σ : zS) (h : wp_CX_area Q σ) : zGi l y_CX_area b_CX_area 1 (some .int) { frames := 0, cells := 0, slots := 0, locals := 0 } D g ad σ [.ref (ad (0, 0))] Q := by
  unfold wp_CX_area at h
  refine zN_of (by decide) (Nat.le_of_ble_eq_true rfl) (fun E C R S => ?_)
  have C : zX E b_CX_area R_CX D g { frames := 0, cells := 0, slots := 0, locals := 0 } 1 := C
  refine z_sub (L' := [(0, .ref (ad (0, 0)))]) [0] rfl ?_
  refine z_aload_n C (pc := 0) d_CX_area_0 0 rfl ?_
  refine x_getX (v := .int (zi (σ 56 0))) C 8 (by decide) rfl wd_93 (pc := 1) d_CX_area_1 ?_
  obtain ⟨hc1, h⟩ := h
  refine z_if_eq (tgt := 14) C (pc := 4) d_CX_area_4 (by decide) hc1 h (fun h => ?_) (fun h => ?_)
  · refine z_bipush C (pc := 14) d_CX_area_14 (by decide) ?_
    exact z_iret C R (pc := 16) d_CX_area_16 h
  · refine z_aload_n C (pc := 7) d_CX_area_7 0 rfl ?_
    refine x_getX (v := .int (zi (σ 58 0))) C 15 (by decide) rfl wd_100 (pc := 8) d_CX_area_8 ?_
    refine z_goto (tgt := 16) C (pc := 11) d_CX_area_11 (by decide) ?_
    exact z_iret C R (pc := 16) d_CX_area_16 h
theorem d_CX_gateAt_0 : decode b_CX_gateAt 0 = .ok (.iload_n 1, 1) := by decide +kernel
theorem d_CX_gateAt_1 : decode b_CX_gateAt 1 = .ok (.ifCond .lt 14, 3) := by decide +kernel
theorem d_CX_gateAt_4 : decode b_CX_gateAt 4 = .ok (.iload_n 1, 1) := by decide +kernel
theorem d_CX_gateAt_5 : decode b_CX_gateAt 5 = .ok (.aload_n 0, 1) := by decide +kernel
theorem d_CX_gateAt_6 : decode b_CX_gateAt 6 = .ok (.getfield 65, 3) := by decide +kernel
theorem d_CX_gateAt_9 : decode b_CX_gateAt 9 = .ok (.invokevirtual 113, 3) := by decide +kernel
theorem d_CX_gateAt_12 : decode b_CX_gateAt 12 = .ok (.if_icmp .lt 5, 3) := by decide +kernel
theorem d_CX_gateAt_15 : decode b_CX_gateAt 15 = .ok (.aconst_null, 1) := by decide +kernel
theorem d_CX_gateAt_16 : decode b_CX_gateAt 16 = .ok (.areturn, 1) := by decide +kernel
theorem d_CX_gateAt_17 : decode b_CX_gateAt 17 = .ok (.aload_n 0, 1) := by decide +kernel
theorem d_CX_gateAt_18 : decode b_CX_gateAt 18 = .ok (.getfield 65, 3) := by decide +kernel
theorem d_CX_gateAt_21 : decode b_CX_gateAt 21 = .ok (.iload_n 1, 1) := by decide +kernel
theorem d_CX_gateAt_22 : decode b_CX_gateAt 22 = .ok (.invokevirtual 116, 3) := by decide +kernel
theorem d_CX_gateAt_25 : decode b_CX_gateAt 25 = .ok (.checkcast 89, 3) := by decide +kernel
theorem d_CX_gateAt_28 : decode b_CX_gateAt 28 = .ok (.astore_n 2, 1) := by decide +kernel
theorem d_CX_gateAt_29 : decode b_CX_gateAt 29 = .ok (.aload_n 2, 1) := by decide +kernel
theorem d_CX_gateAt_30 : decode b_CX_gateAt 30 = .ok (.getfield 196, 3) := by decide +kernel
theorem d_CX_gateAt_33 : decode b_CX_gateAt 33 = .ok (.ifCond .eq 7, 3) := by decide +kernel
theorem d_CX_gateAt_36 : decode b_CX_gateAt 36 = .ok (.aload_n 2, 1) := by decide +kernel
theorem d_CX_gateAt_37 : decode b_CX_gateAt 37 = .ok (.goto 4, 3) := by decide +kernel
theorem d_CX_gateAt_40 : decode b_CX_gateAt 40 = .ok (.aconst_null, 1) := by decide +kernel
theorem d_CX_gateAt_41 : decode b_CX_gateAt 41 = .ok (.areturn, 1) := by decide +kernel
def wp_CX_gateAt (Q : Int → zS → Prop) (v1 : Int) (σ : zS) : Prop :=
  zc v1 ∧ ((v1 < 0 →
    Q (-1) σ) ∧
   (¬ v1 < 0 →
    zc (σ 40 0) ∧ ((v1 < σ 40 0 →
      0 ≤ v1 ∧ v1 < σ 40 0 ∧ 
      0 ≤ σ 41 v1 ∧ σ 41 v1 < σ 70 0 ∧ 
      ∀ y7, y7 = σ 41 v1 →
      zc (σ 11 y7) ∧ ((σ 11 y7 = 0 →
        Q (-1) σ) ∧
       (¬ σ 11 y7 = 0 →
        Q y7 σ))) ∧
     (¬ v1 < σ 40 0 →
      Q (-1) σ))))
set_option maxHeartbeats 4000000 in
set_option maxRecDepth 100000 in
theorem c_CX_gateAt (l : Launch) (D : va_G) (g : zG) (ad : zA) (v1 : Int) (Q : Int → zS → Prop) (σ : zS) (h : wp_CX_gateAt Q v1 σ) : zGr 4 l y_CX_gateAt b_CX_gateAt 3 (some (.object "CellMapper$Node")) { frames := 3, cells := 0, slots := 0, locals := 64 } D g ad σ [.ref (ad (0, 0)), .int (zi v1)] Q := by
  unfold wp_CX_gateAt at h
  refine zN_of (by decide) (Nat.le_of_ble_eq_true rfl) (fun E C R S => ?_)
  have C : zX E b_CX_gateAt R_CX D g { frames := 3, cells := 0, slots := 0, locals := 64 } 3 := C
  refine z_sub (L' := [(0, .ref (ad (0, 0))), (1, .int (zi v1))]) [0, 1] rfl ?_
  refine z_iload_n C (pc := 0) d_CX_gateAt_0 1 rfl ?_
  obtain ⟨hc1, h⟩ := h
  refine z_if_lt (tgt := 15) C (pc := 1) d_CX_gateAt_1 (by decide) hc1 h (fun h => ?_) (fun h => ?_)
  · refine z_nullZ (ad := ad) 4 C (pc := 15) d_CX_gateAt_15 ?_
    exact z_aret C R (Or.inl ⟨_, rfl⟩) (pc := 16) d_CX_gateAt_16 h
  · refine z_iload_n C (pc := 4) d_CX_gateAt_4 1 rfl ?_
    refine z_aload_n C (pc := 5) d_CX_gateAt_5 0 rfl ?_
    refine x_getX (v := .ref (ad (1, 0))) C 1 (by decide) rfl wd_86 (pc := 6) d_CX_gateAt_6 ?_
    refine x_size (P := True) C S 0 (by decide) wd_146 ⟨Nat.le_of_ble_eq_true rfl, Nat.le_of_ble_eq_true rfl⟩ (Nat.le_of_ble_eq_true rfl) (pc := 9) d_CX_gateAt_9 ?_
    obtain ⟨hc2, h⟩ := h
    refine z_icmp_lt (tgt := 17) C (pc := 12) d_CX_gateAt_12 (by decide) hc1 hc2 h (fun h => ?_) (fun h => ?_)
    · refine z_aload_n C (pc := 17) d_CX_gateAt_17 0 rfl ?_
      refine x_getX (v := .ref (ad (1, 0))) C 1 (by decide) rfl wd_86 (pc := 18) d_CX_gateAt_18 ?_
      refine z_iload_n C (pc := 21) d_CX_gateAt_21 1 rfl ?_
      obtain ⟨hc3, hc4, h⟩ := h
      refine x_lget C S 0 (by decide) hc3 hc4 wd_306 ⟨Nat.le_of_ble_eq_true rfl, Nat.le_of_ble_eq_true rfl⟩ (Nat.le_of_ble_eq_true rfl) (pc := 22) d_CX_gateAt_22 ?_
      obtain ⟨hc5, hc6, h⟩ := h
      refine x_castN C wd_83 (Or.inr ⟨hc5, hc6⟩) (pc := 25) d_CX_gateAt_25 ?_
      refine zNz h (fun y7 ey7 h => ?_)
      refine z_astoreZ_n (L' := [(2, zr ad 4 y7), (0, .ref (ad (0, 0))), (1, .int (zi v1))]) C (pc := 28) d_CX_gateAt_28 (by decide) rfl ?_
      refine z_aloadZ_n C (pc := 29) d_CX_gateAt_29 0 rfl ?_
      refine x_getN (v := .int (zi (σ 11 y7))) C 11 (by decide) (by rw [ey7]; exact hc5) (by rw [ey7]; exact hc6) rfl wd_193 (pc := 30) d_CX_gateAt_30 ?_
      obtain ⟨hc8, h⟩ := h
      refine z_if_eq (tgt := 40) C (pc := 33) d_CX_gateAt_33 (by decide) hc8 h (fun h => ?_) (fun h => ?_)
      · refine z_nullZ (ad := ad) 4 C (pc := 40) d_CX_gateAt_40 ?_
        exact z_aret C R (Or.inl ⟨_, rfl⟩) (pc := 41) d_CX_gateAt_41 h
      · refine z_aloadZ_n C (pc := 36) d_CX_gateAt_36 0 rfl ?_
        refine z_goto (tgt := 41) C (pc := 37) d_CX_gateAt_37 (by decide) ?_
        exact z_aret C R (Or.inl ⟨_, rfl⟩) (pc := 41) d_CX_gateAt_41 h
    · refine z_nullZ (ad := ad) 4 C (pc := 15) d_CX_gateAt_15 ?_
      exact z_aret C R (Or.inl ⟨_, rfl⟩) (pc := 16) d_CX_gateAt_16 h
theorem d_CX_cellAt_0 : decode b_CX_cellAt 0 = .ok (.aload_n 0, 1) := by decide +kernel
theorem d_CX_cellAt_1 : decode b_CX_cellAt 1 = .ok (.getfield 109, 3) := by decide +kernel
theorem d_CX_cellAt_4 : decode b_CX_cellAt 4 = .ok (.ifCond .ne 6, 3) := by decide +kernel
theorem d_CX_cellAt_7 : decode b_CX_cellAt 7 = .ok (.bipush (-6), 2) := by decide +kernel
theorem d_CX_cellAt_9 : decode b_CX_cellAt 9 = .ok (.ireturn, 1) := by decide +kernel
theorem d_CX_cellAt_10 : decode b_CX_cellAt 10 = .ok (.aload_n 0, 1) := by decide +kernel
theorem d_CX_cellAt_11 : decode b_CX_cellAt 11 = .ok (.iload_n 1, 1) := by decide +kernel
theorem d_CX_cellAt_12 : decode b_CX_cellAt 12 = .ok (.invokevirtual 329, 3) := by decide +kernel
theorem d_CX_cellAt_15 : decode b_CX_cellAt 15 = .ok (.astore_n 2, 1) := by decide +kernel
theorem d_CX_cellAt_16 : decode b_CX_cellAt 16 = .ok (.aload_n 2, 1) := by decide +kernel
theorem d_CX_cellAt_17 : decode b_CX_cellAt 17 = .ok (.ifnonnull 7, 3) := by decide +kernel
theorem d_CX_cellAt_20 : decode b_CX_cellAt 20 = .ok (.iconst (-1), 1) := by decide +kernel
theorem d_CX_cellAt_21 : decode b_CX_cellAt 21 = .ok (.goto 10, 3) := by decide +kernel
theorem d_CX_cellAt_24 : decode b_CX_cellAt 24 = .ok (.aload_n 2, 1) := by decide +kernel
theorem d_CX_cellAt_25 : decode b_CX_cellAt 25 = .ok (.getfield 199, 3) := by decide +kernel
theorem d_CX_cellAt_28 : decode b_CX_cellAt 28 = .ok (.getfield 332, 3) := by decide +kernel
theorem d_CX_cellAt_31 : decode b_CX_cellAt 31 = .ok (.ireturn, 1) := by decide +kernel
def wp_CX_cellAt (Q : Int → zS → Prop) (v1 : Int) (σ : zS) : Prop :=
  zc (σ 56 0) ∧ ((σ 56 0 = 0 →
    Q (-6) σ) ∧
   (¬ σ 56 0 = 0 →
    wp_CX_gateAt (fun r3 σ2 =>
      ((r3 < 0 →
        Q (-1) σ2) ∧
       (¬ r3 < 0 →
        0 ≤ r3 ∧ r3 < σ2 70 0 ∧ 
        0 ≤ σ2 14 r3 ∧ σ2 14 r3 < σ2 71 0 ∧ 
        Q (σ2 20 (σ2 14 r3)) σ2))) v1 σ))
set_option maxHeartbeats 4000000 in
set_option maxRecDepth 100000 in
theorem c_CX_cellAt (l : Launch) (D : va_G) (g : zG) (ad : zA) (v1 : Int) (Q : Int → zS → Prop) (σ : zS) (h : wp_CX_cellAt Q v1 σ) : zGi l y_CX_cellAt b_CX_cellAt 3 (some .int) { frames := 4, cells := 0, slots := 0, locals := 86 } D g ad σ [.ref (ad (0, 0)), .int (zi v1)] Q := by
  unfold wp_CX_cellAt at h
  refine zN_of (by decide) (Nat.le_of_ble_eq_true rfl) (fun E C R S => ?_)
  have C : zX E b_CX_cellAt R_CX D g { frames := 4, cells := 0, slots := 0, locals := 86 } 3 := C
  refine z_sub (L' := [(0, .ref (ad (0, 0))), (1, .int (zi v1))]) [0, 1] rfl ?_
  refine z_aload_n C (pc := 0) d_CX_cellAt_0 0 rfl ?_
  refine x_getX (v := .int (zi (σ 56 0))) C 8 (by decide) rfl wd_93 (pc := 1) d_CX_cellAt_1 ?_
  obtain ⟨hc1, h⟩ := h
  refine z_if_ne (tgt := 10) C (pc := 4) d_CX_cellAt_4 (by decide) hc1 h (fun h => ?_) (fun h => ?_)
  · refine z_aload_n C (pc := 10) d_CX_cellAt_10 0 rfl ?_
    refine z_iload_n C (pc := 11) d_CX_cellAt_11 1 rfl ?_
    refine x_callVr (As := [.int (zi v1)]) (st := []) C S fy_CX_gateAt (0, 0) (zids_fix zfix_0) rfl rfl wd_650 (pc := 12) d_CX_cellAt_12 ⟨rfl, rfl, Nat.le_of_ble_eq_true rfl, Nat.le_of_ble_eq_true rfl⟩ rfl rfl (Nat.le_of_ble_eq_true rfl) h (c_CX_gateAt (zln E) D g ad _ _ _) (fun r3 σ2 h => ?_)
    refine z_astoreZ_n (L' := [(2, zr ad 4 r3), (0, .ref (ad (0, 0))), (1, .int (zi v1))]) C (pc := 15) d_CX_cellAt_15 (by decide) rfl ?_
    refine z_aloadZ_n C (pc := 16) d_CX_cellAt_16 0 rfl ?_
    refine z_ifnonnull (tgt := 24) C (pc := 17) d_CX_cellAt_17 (by decide) h (fun h => ?_) (fun h => ?_)
    · refine z_aloadZ_n C (pc := 24) d_CX_cellAt_24 0 rfl ?_
      obtain ⟨hc4, hc5, h⟩ := h
      refine x_getN (v := zr ad 5 (σ2 14 r3)) C 14 (by decide) hc4 hc5 rfl wd_198 (pc := 25) d_CX_cellAt_25 ?_
      obtain ⟨hc6, hc7, h⟩ := h
      refine x_getC (v := .int (zi (σ2 20 (σ2 14 r3)))) C 0 (by decide) hc6 hc7 rfl wd_429 (pc := 28) d_CX_cellAt_28 ?_
      exact z_iret C R (pc := 31) d_CX_cellAt_31 h
    · refine z_iconst C (pc := 20) d_CX_cellAt_20 ?_
      refine z_goto (tgt := 31) C (pc := 21) d_CX_cellAt_21 (by decide) ?_
      exact z_iret C R (pc := 31) d_CX_cellAt_31 h
  · refine z_bipush C (pc := 7) d_CX_cellAt_7 (by decide) ?_
    exact z_iret C R (pc := 9) d_CX_cellAt_9 h
theorem d_CX_period_0 : decode b_CX_period 0 = .ok (.aload_n 0, 1) := by decide +kernel
theorem d_CX_period_1 : decode b_CX_period 1 = .ok (.getfield 109, 3) := by decide +kernel
theorem d_CX_period_4 : decode b_CX_period 4 = .ok (.ifCond .eq 10, 3) := by decide +kernel
theorem d_CX_period_7 : decode b_CX_period 7 = .ok (.aload_n 0, 1) := by decide +kernel
theorem d_CX_period_8 : decode b_CX_period 8 = .ok (.getfield 283, 3) := by decide +kernel
theorem d_CX_period_11 : decode b_CX_period 11 = .ok (.goto 5, 3) := by decide +kernel
theorem d_CX_period_14 : decode b_CX_period 14 = .ok (.bipush (-6), 2) := by decide +kernel
theorem d_CX_period_16 : decode b_CX_period 16 = .ok (.ireturn, 1) := by decide +kernel
def wp_CX_period (Q : Int → zS → Prop) (σ : zS) : Prop :=
  zc (σ 56 0) ∧ ((σ 56 0 = 0 →
    Q (-6) σ) ∧
   (¬ σ 56 0 = 0 →
    Q (σ 59 0) σ))
set_option maxHeartbeats 4000000 in
set_option maxRecDepth 100000 in
theorem c_CX_period (l : Launch) (D : va_G) (g : zG) (ad : zA) (Q : Int → zS → Prop) (σ : zS) (h : wp_CX_period Q σ) : zGi l y_CX_period b_CX_period 1 (some .int) { frames := 0, cells := 0, slots := 0, locals := 0 } D g ad σ [.ref (ad (0, 0))] Q := by
  unfold wp_CX_period at h
  refine zN_of (by decide) (Nat.le_of_ble_eq_true rfl) (fun E C R S => ?_)
  have C : zX E b_CX_period R_CX D g { frames := 0, cells := 0, slots := 0, locals := 0 } 1 := C
  refine z_sub (L' := [(0, .ref (ad (0, 0)))]) [0] rfl ?_
  refine z_aload_n C (pc := 0) d_CX_period_0 0 rfl ?_
  refine x_getX (v := .int (zi (σ 56 0))) C 8 (by decide) rfl wd_93 (pc := 1) d_CX_period_1 ?_
  obtain ⟨hc1, h⟩ := h
  refine z_if_eq (tgt := 14) C (pc := 4) d_CX_period_4 (by decide) hc1 h (fun h => ?_) (fun h => ?_)
  · refine z_bipush C (pc := 14) d_CX_period_14 (by decide) ?_
    exact z_iret C R (pc := 16) d_CX_period_16 h
  · refine z_aload_n C (pc := 7) d_CX_period_7 0 rfl ?_
    refine x_getX (v := .int (zi (σ 59 0))) C 16 (by decide) rfl wd_101 (pc := 8) d_CX_period_8 ?_
    refine z_goto (tgt := 16) C (pc := 11) d_CX_period_11 (by decide) ?_
    exact z_iret C R (pc := 16) d_CX_period_16 h
