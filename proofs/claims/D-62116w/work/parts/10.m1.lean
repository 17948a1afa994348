theorem d_MM_newNode_0 : decode b_MM_newNode 0 = .ok (.aload_n 0, 1) := by decide +kernel
theorem d_MM_newNode_1 : decode b_MM_newNode 1 = .ok (.getfield 40, 3) := by decide +kernel
theorem d_MM_newNode_4 : decode b_MM_newNode 4 = .ok (.aload_n 0, 1) := by decide +kernel
theorem d_MM_newNode_5 : decode b_MM_newNode 5 = .ok (.getfield 135, 3) := by decide +kernel
theorem d_MM_newNode_8 : decode b_MM_newNode 8 = .ok (.iload_n 1, 1) := by decide +kernel
theorem d_MM_newNode_9 : decode b_MM_newNode 9 = .ok (.iastore, 1) := by decide +kernel
theorem d_MM_newNode_10 : decode b_MM_newNode 10 = .ok (.aload_n 0, 1) := by decide +kernel
theorem d_MM_newNode_11 : decode b_MM_newNode 11 = .ok (.getfield 43, 3) := by decide +kernel
theorem d_MM_newNode_14 : decode b_MM_newNode 14 = .ok (.aload_n 0, 1) := by decide +kernel
theorem d_MM_newNode_15 : decode b_MM_newNode 15 = .ok (.getfield 135, 3) := by decide +kernel
theorem d_MM_newNode_18 : decode b_MM_newNode 18 = .ok (.iload_n 2, 1) := by decide +kernel
theorem d_MM_newNode_19 : decode b_MM_newNode 19 = .ok (.iastore, 1) := by decide +kernel
theorem d_MM_newNode_20 : decode b_MM_newNode 20 = .ok (.aload_n 0, 1) := by decide +kernel
theorem d_MM_newNode_21 : decode b_MM_newNode 21 = .ok (.getfield 46, 3) := by decide +kernel
theorem d_MM_newNode_24 : decode b_MM_newNode 24 = .ok (.aload_n 0, 1) := by decide +kernel
theorem d_MM_newNode_25 : decode b_MM_newNode 25 = .ok (.getfield 135, 3) := by decide +kernel
theorem d_MM_newNode_28 : decode b_MM_newNode 28 = .ok (.iload_n 3, 1) := by decide +kernel
theorem d_MM_newNode_29 : decode b_MM_newNode 29 = .ok (.iastore, 1) := by decide +kernel
theorem d_MM_newNode_30 : decode b_MM_newNode 30 = .ok (.aload_n 0, 1) := by decide +kernel
theorem d_MM_newNode_31 : decode b_MM_newNode 31 = .ok (.getfield 49, 3) := by decide +kernel
theorem d_MM_newNode_34 : decode b_MM_newNode 34 = .ok (.aload_n 0, 1) := by decide +kernel
theorem d_MM_newNode_35 : decode b_MM_newNode 35 = .ok (.getfield 135, 3) := by decide +kernel
theorem d_MM_newNode_38 : decode b_MM_newNode 38 = .ok (.iload 4, 2) := by decide +kernel
theorem d_MM_newNode_40 : decode b_MM_newNode 40 = .ok (.iastore, 1) := by decide +kernel
theorem d_MM_newNode_41 : decode b_MM_newNode 41 = .ok (.aload_n 0, 1) := by decide +kernel
theorem d_MM_newNode_42 : decode b_MM_newNode 42 = .ok (.dup, 1) := by decide +kernel
theorem d_MM_newNode_43 : decode b_MM_newNode 43 = .ok (.getfield 135, 3) := by decide +kernel
theorem d_MM_newNode_46 : decode b_MM_newNode 46 = .ok (.iconst 1, 1) := by decide +kernel
theorem d_MM_newNode_47 : decode b_MM_newNode 47 = .ok (.iadd, 1) := by decide +kernel
theorem d_MM_newNode_48 : decode b_MM_newNode 48 = .ok (.putfield 135, 3) := by decide +kernel
theorem d_MM_newNode_51 : decode b_MM_newNode 51 = .ok (.aload_n 0, 1) := by decide +kernel
theorem d_MM_newNode_52 : decode b_MM_newNode 52 = .ok (.getfield 135, 3) := by decide +kernel
theorem d_MM_newNode_55 : decode b_MM_newNode 55 = .ok (.iconst 1, 1) := by decide +kernel
theorem d_MM_newNode_56 : decode b_MM_newNode 56 = .ok (.isub, 1) := by decide +kernel
theorem d_MM_newNode_57 : decode b_MM_newNode 57 = .ok (.ireturn, 1) := by decide +kernel
def wp_MM_newNode (Q : Int → zS → Prop) (v1 : Int) (v2 : Int) (v3 : Int) (v4 : Int) (σ : zS) : Prop :=
  0 ≤ σ 113 0 ∧ σ 113 0 < 48 ∧ ∀ σ3, σ3 = zup σ 114 (σ 113 0) v1 →
  0 ≤ σ3 113 0 ∧ σ3 113 0 < 48 ∧ ∀ σ6, σ6 = zup σ3 115 (σ3 113 0) v2 →
  0 ≤ σ6 113 0 ∧ σ6 113 0 < 48 ∧ ∀ σ9, σ9 = zup σ6 116 (σ6 113 0) v3 →
  0 ≤ σ9 113 0 ∧ σ9 113 0 < 48 ∧ ∀ σ12, σ12 = zup σ9 117 (σ9 113 0) v4 →
  ∀ σ13, σ13 = zup σ12 113 0 ((σ12 113 0) + 1) →
  Q ((σ13 113 0) - 1) σ13
set_option maxHeartbeats 4000000 in
set_option maxRecDepth 100000 in
theorem c_MM_newNode (l : Launch) (D : va_G) (g : zG) (ad : zA) (v1 : Int) (v2 : Int) (v3 : Int) (v4 : Int) (Q : Int → zS → Prop) (σ : zS) (h : wp_MM_newNode Q v1 v2 v3 v4 σ) : zMi l y_MM_newNode b_MM_newNode 5 (some .int) { frames := 0, cells := 0, slots := 0, locals := 0 } D g ad σ [.ref (ad (0, 3)), .int (zi v1), .int (zi v2), .int (zi v3), .int (zi v4)] Q := by
  unfold wp_MM_newNode at h
  refine zM_of (by decide) (Nat.le_of_ble_eq_true rfl) (fun E C R hl => ?_)
  have C : zX E b_MM_newNode R_MM D g { frames := 0, cells := 0, slots := 0, locals := 0 } 5 := C
  refine z_sub (L' := [(0, .ref (ad (0, 3))), (1, .int (zi v1)), (2, .int (zi v2)), (3, .int (zi v3)), (4, .int (zi v4))]) [0, 1, 2, 3, 4] rfl ?_
  refine z_aload_n C (pc := 0) d_MM_newNode_0 0 rfl ?_
  refine m_getA C 14 (by decide) rfl wd_718 (pc := 1) d_MM_newNode_1 ?_
  refine z_aload_n C (pc := 4) d_MM_newNode_4 0 rfl ?_
  refine m_getI C 13 113 rfl (by decide) rfl wd_717 (pc := 5) d_MM_newNode_5 ?_
  refine z_iload_n C (pc := 8) d_MM_newNode_8 1 rfl ?_
  obtain ⟨hc1, hc2, h⟩ := h
  refine m_iast C 14 114 48 rfl rfl (by decide) hc1 hc2 (pc := 9) d_MM_newNode_9 ?_
  refine zN h (fun σ3 eσ3 h => ?_)
  refine z_aload_n C (pc := 10) d_MM_newNode_10 0 rfl ?_
  refine m_getA C 15 (by decide) rfl wd_719 (pc := 11) d_MM_newNode_11 ?_
  refine z_aload_n C (pc := 14) d_MM_newNode_14 0 rfl ?_
  refine m_getI C 13 113 rfl (by decide) rfl wd_717 (pc := 15) d_MM_newNode_15 ?_
  refine z_iload_n C (pc := 18) d_MM_newNode_18 2 rfl ?_
  obtain ⟨hc4, hc5, h⟩ := h
  refine m_iast C 15 115 48 rfl rfl (by decide) hc4 hc5 (pc := 19) d_MM_newNode_19 ?_
  refine zN h (fun σ6 eσ6 h => ?_)
  refine z_aload_n C (pc := 20) d_MM_newNode_20 0 rfl ?_
  refine m_getA C 16 (by decide) rfl wd_720 (pc := 21) d_MM_newNode_21 ?_
  refine z_aload_n C (pc := 24) d_MM_newNode_24 0 rfl ?_
  refine m_getI C 13 113 rfl (by decide) rfl wd_717 (pc := 25) d_MM_newNode_25 ?_
  refine z_iload_n C (pc := 28) d_MM_newNode_28 3 rfl ?_
  obtain ⟨hc7, hc8, h⟩ := h
  refine m_iast C 16 116 48 rfl rfl (by decide) hc7 hc8 (pc := 29) d_MM_newNode_29 ?_
  refine zN h (fun σ9 eσ9 h => ?_)
  refine z_aload_n C (pc := 30) d_MM_newNode_30 0 rfl ?_
  refine m_getA C 17 (by decide) rfl wd_721 (pc := 31) d_MM_newNode_31 ?_
  refine z_aload_n C (pc := 34) d_MM_newNode_34 0 rfl ?_
  refine m_getI C 13 113 rfl (by decide) rfl wd_717 (pc := 35) d_MM_newNode_35 ?_
  refine z_iload C (pc := 38) d_MM_newNode_38 4 rfl ?_
  obtain ⟨hc10, hc11, h⟩ := h
  refine m_iast C 17 117 48 rfl rfl (by decide) hc10 hc11 (pc := 40) d_MM_newNode_40 ?_
  refine zN h (fun σ12 eσ12 h => ?_)
  refine z_aload_n C (pc := 41) d_MM_newNode_41 0 rfl ?_
  refine z_dup C (pc := 42) d_MM_newNode_42 rfl ?_
  refine m_getI C 13 113 rfl (by decide) rfl wd_717 (pc := 43) d_MM_newNode_43 ?_
  refine z_iconst C (pc := 46) d_MM_newNode_46 ?_
  refine z_iadd C (pc := 47) d_MM_newNode_47 ?_
  refine m_putI C 13 113 rfl (by decide) rfl wd_717 ⟨rfl, rfl⟩ (pc := 48) d_MM_newNode_48 ?_
  refine zN h (fun σ13 eσ13 h => ?_)
  refine z_aload_n C (pc := 51) d_MM_newNode_51 0 rfl ?_
  refine m_getI C 13 113 rfl (by decide) rfl wd_717 (pc := 52) d_MM_newNode_52 ?_
  refine z_iconst C (pc := 55) d_MM_newNode_55 ?_
  refine z_isub C (pc := 56) d_MM_newNode_56 ?_
  exact z_iret C R (pc := 57) d_MM_newNode_57 h
theorem d_MM_find_0 : decode b_MM_find 0 = .ok (.iconst 0, 1) := by decide +kernel
theorem d_MM_find_1 : decode b_MM_find 1 = .ok (.istore 4, 2) := by decide +kernel
theorem d_MM_find_3 : decode b_MM_find 3 = .ok (.iload 4, 2) := by decide +kernel
theorem d_MM_find_5 : decode b_MM_find 5 = .ok (.aload_n 0, 1) := by decide +kernel
theorem d_MM_find_6 : decode b_MM_find 6 = .ok (.getfield 135, 3) := by decide +kernel
theorem d_MM_find_9 : decode b_MM_find 9 = .ok (.if_icmp .ge 45, 3) := by decide +kernel
theorem d_MM_find_12 : decode b_MM_find 12 = .ok (.aload_n 0, 1) := by decide +kernel
theorem d_MM_find_13 : decode b_MM_find 13 = .ok (.getfield 40, 3) := by decide +kernel
theorem d_MM_find_16 : decode b_MM_find 16 = .ok (.iload 4, 2) := by decide +kernel
theorem d_MM_find_18 : decode b_MM_find 18 = .ok (.iaload, 1) := by decide +kernel
theorem d_MM_find_19 : decode b_MM_find 19 = .ok (.iload_n 1, 1) := by decide +kernel
theorem d_MM_find_20 : decode b_MM_find 20 = .ok (.if_icmp .ne 28, 3) := by decide +kernel
theorem d_MM_find_23 : decode b_MM_find 23 = .ok (.aload_n 0, 1) := by decide +kernel
theorem d_MM_find_24 : decode b_MM_find 24 = .ok (.getfield 43, 3) := by decide +kernel
theorem d_MM_find_27 : decode b_MM_find 27 = .ok (.iload 4, 2) := by decide +kernel
theorem d_MM_find_29 : decode b_MM_find 29 = .ok (.iaload, 1) := by decide +kernel
theorem d_MM_find_30 : decode b_MM_find 30 = .ok (.iload_n 2, 1) := by decide +kernel
theorem d_MM_find_31 : decode b_MM_find 31 = .ok (.if_icmp .ne 17, 3) := by decide +kernel
theorem d_MM_find_34 : decode b_MM_find 34 = .ok (.aload_n 0, 1) := by decide +kernel
theorem d_MM_find_35 : decode b_MM_find 35 = .ok (.getfield 46, 3) := by decide +kernel
theorem d_MM_find_38 : decode b_MM_find 38 = .ok (.iload 4, 2) := by decide +kernel
theorem d_MM_find_40 : decode b_MM_find 40 = .ok (.iaload, 1) := by decide +kernel
theorem d_MM_find_41 : decode b_MM_find 41 = .ok (.iload_n 3, 1) := by decide +kernel
theorem d_MM_find_42 : decode b_MM_find 42 = .ok (.if_icmp .ne 6, 3) := by decide +kernel
theorem d_MM_find_45 : decode b_MM_find 45 = .ok (.iload 4, 2) := by decide +kernel
theorem d_MM_find_47 : decode b_MM_find 47 = .ok (.ireturn, 1) := by decide +kernel
theorem d_MM_find_48 : decode b_MM_find 48 = .ok (.iinc 4 1, 3) := by decide +kernel
theorem d_MM_find_51 : decode b_MM_find 51 = .ok (.goto (-48), 3) := by decide +kernel
theorem d_MM_find_54 : decode b_MM_find 54 = .ok (.aload_n 0, 1) := by decide +kernel
theorem d_MM_find_55 : decode b_MM_find 55 = .ok (.iload_n 1, 1) := by decide +kernel
theorem d_MM_find_56 : decode b_MM_find 56 = .ok (.iload_n 2, 1) := by decide +kernel
theorem d_MM_find_57 : decode b_MM_find 57 = .ok (.iload_n 3, 1) := by decide +kernel
theorem d_MM_find_58 : decode b_MM_find 58 = .ok (.iconst (-1), 1) := by decide +kernel
theorem d_MM_find_59 : decode b_MM_find 59 = .ok (.invokevirtual 139, 3) := by decide +kernel
theorem d_MM_find_62 : decode b_MM_find 62 = .ok (.ireturn, 1) := by decide +kernel
def lp_MM_find_3 (Q : Int → zS → Prop) : Nat → Int → Int → Int → Int → zS → Prop
  | 0 => fun _ _ _ _ _ => False
  | n + 1 => fun v1 v2 v3 v4 σ =>
    zc v4 ∧ zc (σ 113 0) ∧ ((σ 113 0 ≤ v4 →
      wp_MM_newNode (fun r4 σ3 =>
        Q r4 σ3) v1 v2 v3 (-1) σ) ∧
     (¬ σ 113 0 ≤ v4 →
      0 ≤ v4 ∧ v4 < 48 ∧ 
      zc (σ 114 v4) ∧ zc v1 ∧ ((σ 114 v4 = v1 →
        zc (σ 115 v4) ∧ zc v2 ∧ ((σ 115 v4 = v2 →
          zc (σ 116 v4) ∧ zc v3 ∧ ((σ 116 v4 = v3 →
            Q v4 σ) ∧
           (¬ σ 116 v4 = v3 →
            lp_MM_find_3 Q n v1 v2 v3 (v4 + 1) σ))) ∧
         (¬ σ 115 v4 = v2 →
          lp_MM_find_3 Q n v1 v2 v3 (v4 + 1) σ))) ∧
       (¬ σ 114 v4 = v1 →
        lp_MM_find_3 Q n v1 v2 v3 (v4 + 1) σ))))
def wp_MM_find (Q : Int → zS → Prop) (v1 : Int) (v2 : Int) (v3 : Int) (σ : zS) : Prop :=
  ∃ u3, lp_MM_find_3 Q u3 v1 v2 v3 0 σ
set_option maxHeartbeats 4000000 in
set_option maxRecDepth 100000 in
theorem wk_MM_find_3 {E : zE} {D : va_G} {g : zG} {A : Nat → Prop} {ad : zA} {Q : Int → zS → Prop} (C : zX E b_MM_find R_MM D g { frames := 1, cells := 0, slots := 0, locals := 24 } 5) (R : zRt E (some .int) (zQi D g ad Q A) 0 0 A) : ∀ (n : Nat) (v1 : Int) (v2 : Int) (v3 : Int) (v4 : Int) (σ : zS), lp_MM_find_3 Q n v1 v2 v3 v4 σ → zW E (zOK D A (zst E) g ad) 0 0 3 [(0, .ref (ad (0, 3))), (1, .int (zi v1)), (2, .int (zi v2)), (3, .int (zi v3)), (4, .int (zi v4))] [] σ := by
  intro n
  induction n with
  | zero =>
    intro v1 v2 v3 v4 σ h
    exact h.elim
  | succ n ih =>
    intro v1 v2 v3 v4 σ h
    refine z_iload C (pc := 3) d_MM_find_3 4 rfl ?_
    refine z_aload_n C (pc := 5) d_MM_find_5 0 rfl ?_
    refine m_getI C 13 113 rfl (by decide) rfl wd_717 (pc := 6) d_MM_find_6 ?_
    obtain ⟨hc1, hc2, h⟩ := h
    refine z_icmp_ge (tgt := 54) C (pc := 9) d_MM_find_9 (by decide) hc1 hc2 h (fun h => ?_) (fun h => ?_)
    · refine z_aload_n C (pc := 54) d_MM_find_54 0 rfl ?_
      refine z_iload_n C (pc := 55) d_MM_find_55 1 rfl ?_
      refine z_iload_n C (pc := 56) d_MM_find_56 2 rfl ?_
      refine z_iload_n C (pc := 57) d_MM_find_57 3 rfl ?_
      refine z_iconst C (pc := 58) d_MM_find_58 ?_
      refine m_calli (As := [.int (zi v1), .int (zi v2), .int (zi v3), .int (zi (-1))]) C fy_MM_newNode rfl wd_863 (pc := 59) d_MM_find_59 ⟨rfl, rfl, Nat.le_of_ble_eq_true rfl, Nat.le_of_ble_eq_true rfl⟩ rfl rfl (Nat.le_of_ble_eq_true rfl) h (c_MM_newNode (zln E) D g ad _ _ _ _ _ _) (fun r4 σ3 h => ?_)
      exact z_iret C R (pc := 62) d_MM_find_62 h
    · refine z_aload_n C (pc := 12) d_MM_find_12 0 rfl ?_
      refine m_getA C 14 (by decide) rfl wd_718 (pc := 13) d_MM_find_13 ?_
      refine z_iload C (pc := 16) d_MM_find_16 4 rfl ?_
      obtain ⟨hc5, hc6, h⟩ := h
      refine m_iald C 14 114 48 rfl rfl (by decide) hc5 hc6 (pc := 18) d_MM_find_18 ?_
      refine z_iload_n C (pc := 19) d_MM_find_19 1 rfl ?_
      obtain ⟨hc7, hc8, h⟩ := h
      refine z_icmp_ne (tgt := 48) C (pc := 20) d_MM_find_20 (by decide) hc7 hc8 h (fun h => ?_) (fun h => ?_)
      · refine z_iinc (L' := [(4, .int (zi (v4 + 1))), (0, .ref (ad (0, 3))), (1, .int (zi v1)), (2, .int (zi v2)), (3, .int (zi v3))]) C (pc := 48) d_MM_find_48 4 rfl (by decide) rfl ?_
        refine z_goto (tgt := 3) C (pc := 51) d_MM_find_51 (by decide) ?_
        refine z_sub [1, 2, 3, 4, 0] rfl ?_
        exact ih _ _ _ _ _ h
      · refine z_aload_n C (pc := 23) d_MM_find_23 0 rfl ?_
        refine m_getA C 15 (by decide) rfl wd_719 (pc := 24) d_MM_find_24 ?_
        refine z_iload C (pc := 27) d_MM_find_27 4 rfl ?_
        refine m_iald C 15 115 48 rfl rfl (by decide) hc5 hc6 (pc := 29) d_MM_find_29 ?_
        refine z_iload_n C (pc := 30) d_MM_find_30 2 rfl ?_
        obtain ⟨hc11, hc12, h⟩ := h
        refine z_icmp_ne (tgt := 48) C (pc := 31) d_MM_find_31 (by decide) hc11 hc12 h (fun h => ?_) (fun h => ?_)
        · refine z_iinc (L' := [(4, .int (zi (v4 + 1))), (0, .ref (ad (0, 3))), (1, .int (zi v1)), (2, .int (zi v2)), (3, .int (zi v3))]) C (pc := 48) d_MM_find_48 4 rfl (by decide) rfl ?_
          refine z_goto (tgt := 3) C (pc := 51) d_MM_find_51 (by decide) ?_
          refine z_sub [1, 2, 3, 4, 0] rfl ?_
          exact ih _ _ _ _ _ h
        · refine z_aload_n C (pc := 34) d_MM_find_34 0 rfl ?_
          refine m_getA C 16 (by decide) rfl wd_720 (pc := 35) d_MM_find_35 ?_
          refine z_iload C (pc := 38) d_MM_find_38 4 rfl ?_
          refine m_iald C 16 116 48 rfl rfl (by decide) hc5 hc6 (pc := 40) d_MM_find_40 ?_
          refine z_iload_n C (pc := 41) d_MM_find_41 3 rfl ?_
          obtain ⟨hc15, hc16, h⟩ := h
          refine z_icmp_ne (tgt := 48) C (pc := 42) d_MM_find_42 (by decide) hc15 hc16 h (fun h => ?_) (fun h => ?_)
          · refine z_iinc (L' := [(4, .int (zi (v4 + 1))), (0, .ref (ad (0, 3))), (1, .int (zi v1)), (2, .int (zi v2)), (3, .int (zi v3))]) C (pc := 48) d_MM_find_48 4 rfl (by decide) rfl ?_
            refine z_goto (tgt := 3) C (pc := 51) d_MM_find_51 (by decide) ?_
            refine z_sub [1, 2, 3, 4, 0] rfl ?_
            exact ih _ _ _ _ _ h
          · refine z_iload C (pc := 45) d_MM_find_45 4 rfl ?_
            exact z_iret C R (pc := 47) d_MM_find_47 h
set_option maxHeartbeats 4000000 in
set_option maxRecDepth 100000 in
theorem c_MM_find (l : Launch) (D : va_G) (g : zG) (ad : zA) (v1 : Int) (v2 : Int) (v3 : Int) (Q : Int → zS → Prop) (σ : zS) (h : wp_MM_find Q v1 v2 v3 σ) : zMi l y_MM_find b_MM_find 5 (some .int) { frames := 1, cells := 0, slots := 0, locals := 24 } D g ad σ [.ref (ad (0, 3)), .int (zi v1), .int (zi v2), .int (zi v3)] Q := by
  unfold wp_MM_find at h
  refine zM_of (by decide) (Nat.le_of_ble_eq_true rfl) (fun E C R hl => ?_)
  have C : zX E b_MM_find R_MM D g { frames := 1, cells := 0, slots := 0, locals := 24 } 5 := C
  refine z_sub (L' := [(0, .ref (ad (0, 3))), (1, .int (zi v1)), (2, .int (zi v2)), (3, .int (zi v3))]) [0, 1, 2, 3] rfl ?_
  refine z_iconst C (pc := 0) d_MM_find_0 ?_
  refine z_istore (L' := [(4, .int (zi 0)), (0, .ref (ad (0, 3))), (1, .int (zi v1)), (2, .int (zi v2)), (3, .int (zi v3))]) C (pc := 1) d_MM_find_1 (by decide) rfl ?_
  refine z_sub [1, 2, 3, 4, 0] rfl ?_
  obtain ⟨n17, h⟩ := h
  exact wk_MM_find_3 C R n17 _ _ _ _ _ h
theorem d_MM_inv_0 : decode b_MM_inv 0 = .ok (.aload_n 0, 1) := by decide +kernel
theorem d_MM_inv_1 : decode b_MM_inv 1 = .ok (.getfield 40, 3) := by decide +kernel
theorem d_MM_inv_4 : decode b_MM_inv 4 = .ok (.iload_n 1, 1) := by decide +kernel
theorem d_MM_inv_5 : decode b_MM_inv 5 = .ok (.iaload, 1) := by decide +kernel
theorem d_MM_inv_6 : decode b_MM_inv 6 = .ok (.iconst 3, 1) := by decide +kernel
theorem d_MM_inv_7 : decode b_MM_inv 7 = .ok (.if_icmp .ne 12, 3) := by decide +kernel
theorem d_MM_inv_10 : decode b_MM_inv 10 = .ok (.aload_n 0, 1) := by decide +kernel
theorem d_MM_inv_11 : decode b_MM_inv 11 = .ok (.getfield 43, 3) := by decide +kernel
theorem d_MM_inv_14 : decode b_MM_inv 14 = .ok (.iload_n 1, 1) := by decide +kernel
theorem d_MM_inv_15 : decode b_MM_inv 15 = .ok (.iaload, 1) := by decide +kernel
theorem d_MM_inv_16 : decode b_MM_inv 16 = .ok (.goto 10, 3) := by decide +kernel
theorem d_MM_inv_19 : decode b_MM_inv 19 = .ok (.aload_n 0, 1) := by decide +kernel
theorem d_MM_inv_20 : decode b_MM_inv 20 = .ok (.iconst 3, 1) := by decide +kernel
theorem d_MM_inv_21 : decode b_MM_inv 21 = .ok (.iload_n 1, 1) := by decide +kernel
theorem d_MM_inv_22 : decode b_MM_inv 22 = .ok (.iconst (-1), 1) := by decide +kernel
theorem d_MM_inv_23 : decode b_MM_inv 23 = .ok (.invokevirtual 143, 3) := by decide +kernel
theorem d_MM_inv_26 : decode b_MM_inv 26 = .ok (.ireturn, 1) := by decide +kernel
def wp_MM_inv (Q : Int → zS → Prop) (v1 : Int) (σ : zS) : Prop :=
  0 ≤ v1 ∧ v1 < 48 ∧ 
  zc (σ 114 v1) ∧ ((σ 114 v1 = 3 →
    Q (σ 115 v1) σ) ∧
   (¬ σ 114 v1 = 3 →
    wp_MM_find (fun r5 σ4 =>
      Q r5 σ4) 3 v1 (-1) σ))
set_option maxHeartbeats 4000000 in
set_option maxRecDepth 100000 in
theorem c_MM_inv (l : Launch) (D : va_G) (g : zG) (ad : zA) (v1 : Int) (Q : Int → zS → Prop) (σ : zS) (h : wp_MM_inv Q v1 σ) : zMi l y_MM_inv b_MM_inv 2 (some .int) { frames := 2, cells := 0, slots := 0, locals := 48 } D g ad σ [.ref (ad (0, 3)), .int (zi v1)] Q := by
  unfold wp_MM_inv at h
  refine zM_of (by decide) (Nat.le_of_ble_eq_true rfl) (fun E C R hl => ?_)
  have C : zX E b_MM_inv R_MM D g { frames := 2, cells := 0, slots := 0, locals := 48 } 2 := C
  refine z_sub (L' := [(0, .ref (ad (0, 3))), (1, .int (zi v1))]) [0, 1] rfl ?_
  refine z_aload_n C (pc := 0) d_MM_inv_0 0 rfl ?_
  refine m_getA C 14 (by decide) rfl wd_718 (pc := 1) d_MM_inv_1 ?_
  refine z_iload_n C (pc := 4) d_MM_inv_4 1 rfl ?_
  obtain ⟨hc1, hc2, h⟩ := h
  refine m_iald C 14 114 48 rfl rfl (by decide) hc1 hc2 (pc := 5) d_MM_inv_5 ?_
  refine z_iconst C (pc := 6) d_MM_inv_6 ?_
  obtain ⟨hc3, h⟩ := h
  refine z_icmp_ne (tgt := 19) C (pc := 7) d_MM_inv_7 (by decide) hc3 (by decide) h (fun h => ?_) (fun h => ?_)
  · refine z_aload_n C (pc := 19) d_MM_inv_19 0 rfl ?_
    refine z_iconst C (pc := 20) d_MM_inv_20 ?_
    refine z_iload_n C (pc := 21) d_MM_inv_21 1 rfl ?_
    refine z_iconst C (pc := 22) d_MM_inv_22 ?_
    refine m_calli (As := [.int (zi 3), .int (zi v1), .int (zi (-1))]) C fy_MM_find rfl wd_907 (pc := 23) d_MM_inv_23 ⟨rfl, rfl, Nat.le_of_ble_eq_true rfl, Nat.le_of_ble_eq_true rfl⟩ rfl rfl (Nat.le_of_ble_eq_true rfl) h (c_MM_find (zln E) D g ad _ _ _ _ _) (fun r5 σ4 h => ?_)
    exact z_iret C R (pc := 26) d_MM_inv_26 h
  · refine z_aload_n C (pc := 10) d_MM_inv_10 0 rfl ?_
    refine m_getA C 15 (by decide) rfl wd_719 (pc := 11) d_MM_inv_11 ?_
    refine z_iload_n C (pc := 14) d_MM_inv_14 1 rfl ?_
    refine m_iald C 15 115 48 rfl rfl (by decide) hc1 hc2 (pc := 15) d_MM_inv_15 ?_
    refine z_goto (tgt := 26) C (pc := 16) d_MM_inv_16 (by decide) ?_
    exact z_iret C R (pc := 26) d_MM_inv_26 h
theorem d_MM_nand_0 : decode b_MM_nand 0 = .ok (.iload_n 1, 1) := by decide +kernel
theorem d_MM_nand_1 : decode b_MM_nand 1 = .ok (.iload_n 2, 1) := by decide +kernel
theorem d_MM_nand_2 : decode b_MM_nand 2 = .ok (.if_icmp .ne 9, 3) := by decide +kernel
theorem d_MM_nand_5 : decode b_MM_nand 5 = .ok (.aload_n 0, 1) := by decide +kernel
theorem d_MM_nand_6 : decode b_MM_nand 6 = .ok (.iload_n 1, 1) := by decide +kernel
theorem d_MM_nand_7 : decode b_MM_nand 7 = .ok (.invokevirtual 147, 3) := by decide +kernel
theorem d_MM_nand_10 : decode b_MM_nand 10 = .ok (.ireturn, 1) := by decide +kernel
theorem d_MM_nand_11 : decode b_MM_nand 11 = .ok (.iload_n 1, 1) := by decide +kernel
theorem d_MM_nand_12 : decode b_MM_nand 12 = .ok (.iload_n 2, 1) := by decide +kernel
theorem d_MM_nand_13 : decode b_MM_nand 13 = .ok (.if_icmp .ge 13, 3) := by decide +kernel
theorem d_MM_nand_16 : decode b_MM_nand 16 = .ok (.aload_n 0, 1) := by decide +kernel
theorem d_MM_nand_17 : decode b_MM_nand 17 = .ok (.iconst 2, 1) := by decide +kernel
theorem d_MM_nand_18 : decode b_MM_nand 18 = .ok (.iload_n 1, 1) := by decide +kernel
theorem d_MM_nand_19 : decode b_MM_nand 19 = .ok (.iload_n 2, 1) := by decide +kernel
theorem d_MM_nand_20 : decode b_MM_nand 20 = .ok (.invokevirtual 143, 3) := by decide +kernel
theorem d_MM_nand_23 : decode b_MM_nand 23 = .ok (.goto 10, 3) := by decide +kernel
theorem d_MM_nand_26 : decode b_MM_nand 26 = .ok (.aload_n 0, 1) := by decide +kernel
theorem d_MM_nand_27 : decode b_MM_nand 27 = .ok (.iconst 2, 1) := by decide +kernel
theorem d_MM_nand_28 : decode b_MM_nand 28 = .ok (.iload_n 2, 1) := by decide +kernel
theorem d_MM_nand_29 : decode b_MM_nand 29 = .ok (.iload_n 1, 1) := by decide +kernel
theorem d_MM_nand_30 : decode b_MM_nand 30 = .ok (.invokevirtual 143, 3) := by decide +kernel
theorem d_MM_nand_33 : decode b_MM_nand 33 = .ok (.ireturn, 1) := by decide +kernel
def wp_MM_nand (Q : Int → zS → Prop) (v1 : Int) (v2 : Int) (σ : zS) : Prop :=
  zc v1 ∧ zc v2 ∧ ((v1 = v2 →
    wp_MM_inv (fun r8 σ7 =>
      Q r8 σ7) v1 σ) ∧
   (¬ v1 = v2 →
    ((v2 ≤ v1 →
      wp_MM_find (fun r4 σ3 =>
        Q r4 σ3) 2 v2 v1 σ) ∧
     (¬ v2 ≤ v1 →
      wp_MM_find (fun r6 σ5 =>
        Q r6 σ5) 2 v1 v2 σ))))
set_option maxHeartbeats 4000000 in
set_option maxRecDepth 100000 in
theorem c_MM_nand (l : Launch) (D : va_G) (g : zG) (ad : zA) (v1 : Int) (v2 : Int) (Q : Int → zS → Prop) (σ : zS) (h : wp_MM_nand Q v1 v2 σ) : zMi l y_MM_nand b_MM_nand 3 (some .int) { frames := 3, cells := 0, slots := 0, locals := 69 } D g ad σ [.ref (ad (0, 3)), .int (zi v1), .int (zi v2)] Q := by
  unfold wp_MM_nand at h
  refine zM_of (by decide) (Nat.le_of_ble_eq_true rfl) (fun E C R hl => ?_)
  have C : zX E b_MM_nand R_MM D g { frames := 3, cells := 0, slots := 0, locals := 69 } 3 := C
  refine z_sub (L' := [(0, .ref (ad (0, 3))), (1, .int (zi v1)), (2, .int (zi v2))]) [0, 1, 2] rfl ?_
  refine z_iload_n C (pc := 0) d_MM_nand_0 1 rfl ?_
  refine z_iload_n C (pc := 1) d_MM_nand_1 2 rfl ?_
  obtain ⟨hc1, hc2, h⟩ := h
  refine z_icmp_ne (tgt := 11) C (pc := 2) d_MM_nand_2 (by decide) hc1 hc2 h (fun h => ?_) (fun h => ?_)
  · refine z_iload_n C (pc := 11) d_MM_nand_11 1 rfl ?_
    refine z_iload_n C (pc := 12) d_MM_nand_12 2 rfl ?_
    refine z_icmp_ge (tgt := 26) C (pc := 13) d_MM_nand_13 (by decide) hc1 hc2 h (fun h => ?_) (fun h => ?_)
    · refine z_aload_n C (pc := 26) d_MM_nand_26 0 rfl ?_
      refine z_iconst C (pc := 27) d_MM_nand_27 ?_
      refine z_iload_n C (pc := 28) d_MM_nand_28 2 rfl ?_
      refine z_iload_n C (pc := 29) d_MM_nand_29 1 rfl ?_
      refine m_calli (As := [.int (zi 2), .int (zi v2), .int (zi v1)]) C fy_MM_find rfl wd_907 (pc := 30) d_MM_nand_30 ⟨rfl, rfl, Nat.le_of_ble_eq_true rfl, Nat.le_of_ble_eq_true rfl⟩ rfl rfl (Nat.le_of_ble_eq_true rfl) h (c_MM_find (zln E) D g ad _ _ _ _ _) (fun r4 σ3 h => ?_)
      exact z_iret C R (pc := 33) d_MM_nand_33 h
    · refine z_aload_n C (pc := 16) d_MM_nand_16 0 rfl ?_
      refine z_iconst C (pc := 17) d_MM_nand_17 ?_
      refine z_iload_n C (pc := 18) d_MM_nand_18 1 rfl ?_
      refine z_iload_n C (pc := 19) d_MM_nand_19 2 rfl ?_
      refine m_calli (As := [.int (zi 2), .int (zi v1), .int (zi v2)]) C fy_MM_find rfl wd_907 (pc := 20) d_MM_nand_20 ⟨rfl, rfl, Nat.le_of_ble_eq_true rfl, Nat.le_of_ble_eq_true rfl⟩ rfl rfl (Nat.le_of_ble_eq_true rfl) h (c_MM_find (zln E) D g ad _ _ _ _ _) (fun r6 σ5 h => ?_)
      refine z_goto (tgt := 33) C (pc := 23) d_MM_nand_23 (by decide) ?_
      exact z_iret C R (pc := 33) d_MM_nand_33 h
  · refine z_aload_n C (pc := 5) d_MM_nand_5 0 rfl ?_
    refine z_iload_n C (pc := 6) d_MM_nand_6 1 rfl ?_
    refine m_calli (As := [.int (zi v1)]) C fy_MM_inv rfl wd_903 (pc := 7) d_MM_nand_7 ⟨rfl, rfl, Nat.le_of_ble_eq_true rfl, Nat.le_of_ble_eq_true rfl⟩ rfl rfl (Nat.le_of_ble_eq_true rfl) h (c_MM_inv (zln E) D g ad _ _ _) (fun r8 σ7 h => ?_)
    exact z_iret C R (pc := 10) d_MM_nand_10 h
theorem d_MM_join_0 : decode b_MM_join 0 = .ok (.iload_n 2, 1) := by decide +kernel
theorem d_MM_join_1 : decode b_MM_join 1 = .ok (.iconst 2, 1) := by decide +kernel
theorem d_MM_join_2 : decode b_MM_join 2 = .ok (.if_icmp .ge 23, 3) := by decide +kernel
theorem d_MM_join_5 : decode b_MM_join 5 = .ok (.iload 4, 2) := by decide +kernel
theorem d_MM_join_7 : decode b_MM_join 7 = .ok (.iconst 2, 1) := by decide +kernel
theorem d_MM_join_8 : decode b_MM_join 8 = .ok (.if_icmp .ge 17, 3) := by decide +kernel
theorem d_MM_join_11 : decode b_MM_join 11 = .ok (.iload_n 2, 1) := by decide +kernel
theorem d_MM_join_12 : decode b_MM_join 12 = .ok (.ifCond .ne 7, 3) := by decide +kernel
theorem d_MM_join_15 : decode b_MM_join 15 = .ok (.iload_n 1, 1) := by decide +kernel
theorem d_MM_join_16 : decode b_MM_join 16 = .ok (.goto 8, 3) := by decide +kernel
theorem d_MM_join_19 : decode b_MM_join 19 = .ok (.aload_n 0, 1) := by decide +kernel
theorem d_MM_join_20 : decode b_MM_join 20 = .ok (.iload_n 1, 1) := by decide +kernel
theorem d_MM_join_21 : decode b_MM_join 21 = .ok (.invokevirtual 147, 3) := by decide +kernel
theorem d_MM_join_24 : decode b_MM_join 24 = .ok (.ireturn, 1) := by decide +kernel
theorem d_MM_join_25 : decode b_MM_join 25 = .ok (.iload_n 2, 1) := by decide +kernel
theorem d_MM_join_26 : decode b_MM_join 26 = .ok (.iconst 2, 1) := by decide +kernel
theorem d_MM_join_27 : decode b_MM_join 27 = .ok (.if_icmp .ge 46, 3) := by decide +kernel
theorem d_MM_join_30 : decode b_MM_join 30 = .ok (.iload_n 2, 1) := by decide +kernel
theorem d_MM_join_31 : decode b_MM_join 31 = .ok (.ifCond .ne 13, 3) := by decide +kernel
theorem d_MM_join_34 : decode b_MM_join 34 = .ok (.aload_n 0, 1) := by decide +kernel
theorem d_MM_join_35 : decode b_MM_join 35 = .ok (.iload_n 1, 1) := by decide +kernel
theorem d_MM_join_36 : decode b_MM_join 36 = .ok (.iload 5, 2) := by decide +kernel
theorem d_MM_join_38 : decode b_MM_join 38 = .ok (.invokevirtual 151, 3) := by decide +kernel
theorem d_MM_join_41 : decode b_MM_join 41 = .ok (.goto 9, 3) := by decide +kernel
theorem d_MM_join_44 : decode b_MM_join 44 = .ok (.aload_n 0, 1) := by decide +kernel
theorem d_MM_join_45 : decode b_MM_join 45 = .ok (.iload 5, 2) := by decide +kernel
theorem d_MM_join_47 : decode b_MM_join 47 = .ok (.invokevirtual 147, 3) := by decide +kernel
theorem d_MM_join_50 : decode b_MM_join 50 = .ok (.istore 6, 2) := by decide +kernel
theorem d_MM_join_52 : decode b_MM_join 52 = .ok (.iload_n 2, 1) := by decide +kernel
theorem d_MM_join_53 : decode b_MM_join 53 = .ok (.ifCond .ne 12, 3) := by decide +kernel
theorem d_MM_join_56 : decode b_MM_join 56 = .ok (.aload_n 0, 1) := by decide +kernel
theorem d_MM_join_57 : decode b_MM_join 57 = .ok (.iload 6, 2) := by decide +kernel
theorem d_MM_join_59 : decode b_MM_join 59 = .ok (.invokevirtual 147, 3) := by decide +kernel
theorem d_MM_join_62 : decode b_MM_join 62 = .ok (.goto 10, 3) := by decide +kernel
theorem d_MM_join_65 : decode b_MM_join 65 = .ok (.aload_n 0, 1) := by decide +kernel
theorem d_MM_join_66 : decode b_MM_join 66 = .ok (.iload_n 1, 1) := by decide +kernel
theorem d_MM_join_67 : decode b_MM_join 67 = .ok (.iload 6, 2) := by decide +kernel
theorem d_MM_join_69 : decode b_MM_join 69 = .ok (.invokevirtual 151, 3) := by decide +kernel
theorem d_MM_join_72 : decode b_MM_join 72 = .ok (.ireturn, 1) := by decide +kernel
theorem d_MM_join_73 : decode b_MM_join 73 = .ok (.iload 4, 2) := by decide +kernel
theorem d_MM_join_75 : decode b_MM_join 75 = .ok (.iconst 2, 1) := by decide +kernel
theorem d_MM_join_76 : decode b_MM_join 76 = .ok (.if_icmp .ne 37, 3) := by decide +kernel
theorem d_MM_join_79 : decode b_MM_join 79 = .ok (.aload_n 0, 1) := by decide +kernel
theorem d_MM_join_80 : decode b_MM_join 80 = .ok (.iload_n 1, 1) := by decide +kernel
theorem d_MM_join_81 : decode b_MM_join 81 = .ok (.iload 5, 2) := by decide +kernel
theorem d_MM_join_83 : decode b_MM_join 83 = .ok (.invokevirtual 151, 3) := by decide +kernel
theorem d_MM_join_86 : decode b_MM_join 86 = .ok (.istore 6, 2) := by decide +kernel
theorem d_MM_join_88 : decode b_MM_join 88 = .ok (.aload_n 0, 1) := by decide +kernel
theorem d_MM_join_89 : decode b_MM_join 89 = .ok (.iload_n 1, 1) := by decide +kernel
theorem d_MM_join_90 : decode b_MM_join 90 = .ok (.invokevirtual 147, 3) := by decide +kernel
theorem d_MM_join_93 : decode b_MM_join 93 = .ok (.istore 7, 2) := by decide +kernel
theorem d_MM_join_95 : decode b_MM_join 95 = .ok (.aload_n 0, 1) := by decide +kernel
theorem d_MM_join_96 : decode b_MM_join 96 = .ok (.iload 7, 2) := by decide +kernel
theorem d_MM_join_98 : decode b_MM_join 98 = .ok (.iload_n 3, 1) := by decide +kernel
theorem d_MM_join_99 : decode b_MM_join 99 = .ok (.invokevirtual 151, 3) := by decide +kernel
theorem d_MM_join_102 : decode b_MM_join 102 = .ok (.istore 8, 2) := by decide +kernel
theorem d_MM_join_104 : decode b_MM_join 104 = .ok (.aload_n 0, 1) := by decide +kernel
theorem d_MM_join_105 : decode b_MM_join 105 = .ok (.iload 6, 2) := by decide +kernel
theorem d_MM_join_107 : decode b_MM_join 107 = .ok (.iload 8, 2) := by decide +kernel
theorem d_MM_join_109 : decode b_MM_join 109 = .ok (.invokevirtual 151, 3) := by decide +kernel
theorem d_MM_join_112 : decode b_MM_join 112 = .ok (.ireturn, 1) := by decide +kernel
theorem d_MM_join_113 : decode b_MM_join 113 = .ok (.aload_n 0, 1) := by decide +kernel
theorem d_MM_join_114 : decode b_MM_join 114 = .ok (.iload_n 1, 1) := by decide +kernel
theorem d_MM_join_115 : decode b_MM_join 115 = .ok (.invokevirtual 147, 3) := by decide +kernel
theorem d_MM_join_118 : decode b_MM_join 118 = .ok (.istore 6, 2) := by decide +kernel
theorem d_MM_join_120 : decode b_MM_join 120 = .ok (.iload 4, 2) := by decide +kernel
theorem d_MM_join_122 : decode b_MM_join 122 = .ok (.ifCond .ne 13, 3) := by decide +kernel
theorem d_MM_join_125 : decode b_MM_join 125 = .ok (.aload_n 0, 1) := by decide +kernel
theorem d_MM_join_126 : decode b_MM_join 126 = .ok (.iload 6, 2) := by decide +kernel
theorem d_MM_join_128 : decode b_MM_join 128 = .ok (.iload_n 3, 1) := by decide +kernel
theorem d_MM_join_129 : decode b_MM_join 129 = .ok (.invokevirtual 151, 3) := by decide +kernel
theorem d_MM_join_132 : decode b_MM_join 132 = .ok (.goto 8, 3) := by decide +kernel
theorem d_MM_join_135 : decode b_MM_join 135 = .ok (.aload_n 0, 1) := by decide +kernel
theorem d_MM_join_136 : decode b_MM_join 136 = .ok (.iload_n 3, 1) := by decide +kernel
theorem d_MM_join_137 : decode b_MM_join 137 = .ok (.invokevirtual 147, 3) := by decide +kernel
theorem d_MM_join_140 : decode b_MM_join 140 = .ok (.istore 7, 2) := by decide +kernel
theorem d_MM_join_142 : decode b_MM_join 142 = .ok (.iload 4, 2) := by decide +kernel
theorem d_MM_join_144 : decode b_MM_join 144 = .ok (.ifCond .ne 12, 3) := by decide +kernel
theorem d_MM_join_147 : decode b_MM_join 147 = .ok (.aload_n 0, 1) := by decide +kernel
theorem d_MM_join_148 : decode b_MM_join 148 = .ok (.iload 7, 2) := by decide +kernel
theorem d_MM_join_150 : decode b_MM_join 150 = .ok (.invokevirtual 147, 3) := by decide +kernel
theorem d_MM_join_153 : decode b_MM_join 153 = .ok (.goto 11, 3) := by decide +kernel
theorem d_MM_join_156 : decode b_MM_join 156 = .ok (.aload_n 0, 1) := by decide +kernel
theorem d_MM_join_157 : decode b_MM_join 157 = .ok (.iload 6, 2) := by decide +kernel
theorem d_MM_join_159 : decode b_MM_join 159 = .ok (.iload 7, 2) := by decide +kernel
theorem d_MM_join_161 : decode b_MM_join 161 = .ok (.invokevirtual 151, 3) := by decide +kernel
theorem d_MM_join_164 : decode b_MM_join 164 = .ok (.ireturn, 1) := by decide +kernel
def bk_MM_join_140 (Q : Int → zS → Prop) (v4 : Int) (v6 : Int) (z0 : Int) (σ : zS) : Prop :=
  zc v4 ∧ ((v4 = 0 →
    wp_MM_inv (fun r12 σ11 =>
      Q r12 σ11) z0 σ) ∧
   (¬ v4 = 0 →
    wp_MM_nand (fun r10 σ9 =>
      Q r10 σ9) v6 z0 σ))
def bk_MM_join_50 (Q : Int → zS → Prop) (v1 : Int) (v2 : Int) (z0 : Int) (σ : zS) : Prop :=
  zc v2 ∧ ((v2 = 0 →
    wp_MM_inv (fun r29 σ28 =>
      Q r29 σ28) z0 σ) ∧
   (¬ v2 = 0 →
    wp_MM_nand (fun r27 σ26 =>
      Q r27 σ26) v1 z0 σ))
def bk_MM_join_25 (Q : Int → zS → Prop) (v1 : Int) (v2 : Int) (v3 : Int) (v4 : Int) (v5 : Int) (σ : zS) : Prop :=
  zc v2 ∧ ((2 ≤ v2 →
    zc v4 ∧ ((v4 = 2 →
      wp_MM_nand (fun r16 σ15 =>
        wp_MM_inv (fun r18 σ17 =>
          wp_MM_nand (fun r20 σ19 =>
            wp_MM_nand (fun r22 σ21 =>
              Q r22 σ21) r16 r20 σ19) r18 v3 σ17) v1 σ15) v1 v5 σ) ∧
     (¬ v4 = 2 →
      wp_MM_inv (fun r5 σ4 =>
        ((v4 = 0 →
          wp_MM_nand (fun r14 σ13 =>
            bk_MM_join_140 Q v4 r5 r14 σ13) r5 v3 σ4) ∧
         (¬ v4 = 0 →
          wp_MM_inv (fun r7 σ6 =>
            bk_MM_join_140 Q v4 r5 r7 σ6) v3 σ4))) v1 σ))) ∧
   (¬ 2 ≤ v2 →
    ((v2 = 0 →
      wp_MM_nand (fun r31 σ30 =>
        bk_MM_join_50 Q v1 v2 r31 σ30) v1 v5 σ) ∧
     (¬ v2 = 0 →
      wp_MM_inv (fun r24 σ23 =>
        bk_MM_join_50 Q v1 v2 r24 σ23) v5 σ))))
def wp_MM_join (Q : Int → zS → Prop) (v1 : Int) (v2 : Int) (v3 : Int) (v4 : Int) (v5 : Int) (σ : zS) : Prop :=
  zc v2 ∧ ((2 ≤ v2 →
    bk_MM_join_25 Q v1 v2 v3 v4 v5 σ) ∧
   (¬ 2 ≤ v2 →
    zc v4 ∧ ((2 ≤ v4 →
      bk_MM_join_25 Q v1 v2 v3 v4 v5 σ) ∧
     (¬ 2 ≤ v4 →
      ((v2 = 0 →
        Q v1 σ) ∧
       (¬ v2 = 0 →
        wp_MM_inv (fun r34 σ33 =>
          Q r34 σ33) v1 σ))))))
set_option maxHeartbeats 4000000 in
set_option maxRecDepth 100000 in
theorem wk_MM_join_140 {E : zE} {D : va_G} {g : zG} {A : Nat → Prop} {ad : zA} {Q : Int → zS → Prop} (C : zX E b_MM_join R_MM D g { frames := 4, cells := 0, slots := 0, locals := 91 } 9) (R : zRt E (some .int) (zQi D g ad Q A) 0 0 A) (v4 : Int) (v6 : Int) (z0 : Int) (σ : zS) (h : bk_MM_join_140 Q v4 v6 z0 σ) : zW E (zOK D A (zst E) g ad) 0 0 140 [(0, .ref (ad (0, 3))), (4, .int (zi v4)), (6, .int (zi v6))] [.int (zi z0)] σ := by
  unfold bk_MM_join_140 at h
  refine z_istore (L' := [(7, .int (zi z0)), (0, .ref (ad (0, 3))), (4, .int (zi v4)), (6, .int (zi v6))]) C (pc := 140) d_MM_join_140 (by decide) rfl ?_
  refine z_iload C (pc := 142) d_MM_join_142 2 rfl ?_
  obtain ⟨hc8, h⟩ := h
  refine z_if_ne (tgt := 156) C (pc := 144) d_MM_join_144 (by decide) hc8 h (fun h => ?_) (fun h => ?_)
  · refine z_aload_n C (pc := 156) d_MM_join_156 1 rfl ?_
    refine z_iload C (pc := 157) d_MM_join_157 3 rfl ?_
    refine z_iload C (pc := 159) d_MM_join_159 0 rfl ?_
    refine m_calli (As := [.int (zi v6), .int (zi z0)]) C fy_MM_nand rfl wd_911 (pc := 161) d_MM_join_161 ⟨rfl, rfl, Nat.le_of_ble_eq_true rfl, Nat.le_of_ble_eq_true rfl⟩ rfl rfl (Nat.le_of_ble_eq_true rfl) h (c_MM_nand (zln E) D g ad _ _ _ _) (fun r10 σ9 h => ?_)
    exact z_iret C R (pc := 164) d_MM_join_164 h
  · refine z_aload_n C (pc := 147) d_MM_join_147 1 rfl ?_
    refine z_iload C (pc := 148) d_MM_join_148 0 rfl ?_
    refine m_calli (As := [.int (zi z0)]) C fy_MM_inv rfl wd_903 (pc := 150) d_MM_join_150 ⟨rfl, rfl, Nat.le_of_ble_eq_true rfl, Nat.le_of_ble_eq_true rfl⟩ rfl rfl (Nat.le_of_ble_eq_true rfl) h (c_MM_inv (zln E) D g ad _ _ _) (fun r12 σ11 h => ?_)
    refine z_goto (tgt := 164) C (pc := 153) d_MM_join_153 (by decide) ?_
    exact z_iret C R (pc := 164) d_MM_join_164 h
set_option maxHeartbeats 4000000 in
set_option maxRecDepth 100000 in
theorem wk_MM_join_50 {E : zE} {D : va_G} {g : zG} {A : Nat → Prop} {ad : zA} {Q : Int → zS → Prop} (C : zX E b_MM_join R_MM D g { frames := 4, cells := 0, slots := 0, locals := 91 } 9) (R : zRt E (some .int) (zQi D g ad Q A) 0 0 A) (v1 : Int) (v2 : Int) (z0 : Int) (σ : zS) (h : bk_MM_join_50 Q v1 v2 z0 σ) : zW E (zOK D A (zst E) g ad) 0 0 50 [(0, .ref (ad (0, 3))), (1, .int (zi v1)), (2, .int (zi v2))] [.int (zi z0)] σ := by
  unfold bk_MM_join_50 at h
  refine z_istore (L' := [(6, .int (zi z0)), (0, .ref (ad (0, 3))), (1, .int (zi v1)), (2, .int (zi v2))]) C (pc := 50) d_MM_join_50 (by decide) rfl ?_
  refine z_iload_n C (pc := 52) d_MM_join_52 3 rfl ?_
  obtain ⟨hc25, h⟩ := h
  refine z_if_ne (tgt := 65) C (pc := 53) d_MM_join_53 (by decide) hc25 h (fun h => ?_) (fun h => ?_)
  · refine z_aload_n C (pc := 65) d_MM_join_65 1 rfl ?_
    refine z_iload_n C (pc := 66) d_MM_join_66 2 rfl ?_
    refine z_iload C (pc := 67) d_MM_join_67 0 rfl ?_
    refine m_calli (As := [.int (zi v1), .int (zi z0)]) C fy_MM_nand rfl wd_911 (pc := 69) d_MM_join_69 ⟨rfl, rfl, Nat.le_of_ble_eq_true rfl, Nat.le_of_ble_eq_true rfl⟩ rfl rfl (Nat.le_of_ble_eq_true rfl) h (c_MM_nand (zln E) D g ad _ _ _ _) (fun r27 σ26 h => ?_)
    exact z_iret C R (pc := 72) d_MM_join_72 h
  · refine z_aload_n C (pc := 56) d_MM_join_56 1 rfl ?_
    refine z_iload C (pc := 57) d_MM_join_57 0 rfl ?_
    refine m_calli (As := [.int (zi z0)]) C fy_MM_inv rfl wd_903 (pc := 59) d_MM_join_59 ⟨rfl, rfl, Nat.le_of_ble_eq_true rfl, Nat.le_of_ble_eq_true rfl⟩ rfl rfl (Nat.le_of_ble_eq_true rfl) h (c_MM_inv (zln E) D g ad _ _ _) (fun r29 σ28 h => ?_)
    refine z_goto (tgt := 72) C (pc := 62) d_MM_join_62 (by decide) ?_
    exact z_iret C R (pc := 72) d_MM_join_72 h
set_option maxHeartbeats 4000000 in
set_option maxRecDepth 100000 in
theorem wk_MM_join_25 {E : zE} {D : va_G} {g : zG} {A : Nat → Prop} {ad : zA} {Q : Int → zS → Prop} (C : zX E b_MM_join R_MM D g { frames := 4, cells := 0, slots := 0, locals := 91 } 9) (R : zRt E (some .int) (zQi D g ad Q A) 0 0 A) (v1 : Int) (v2 : Int) (v3 : Int) (v4 : Int) (v5 : Int) (σ : zS) (h : bk_MM_join_25 Q v1 v2 v3 v4 v5 σ) : zW E (zOK D A (zst E) g ad) 0 0 25 [(0, .ref (ad (0, 3))), (1, .int (zi v1)), (2, .int (zi v2)), (3, .int (zi v3)), (4, .int (zi v4)), (5, .int (zi v5))] [] σ := by
  unfold bk_MM_join_25 at h
  refine z_iload_n C (pc := 25) d_MM_join_25 2 rfl ?_
  refine z_iconst C (pc := 26) d_MM_join_26 ?_
  obtain ⟨hc2, h⟩ := h
  refine z_icmp_ge (tgt := 73) C (pc := 27) d_MM_join_27 (by decide) hc2 (by decide) h (fun h => ?_) (fun h => ?_)
  · refine z_iload C (pc := 73) d_MM_join_73 4 rfl ?_
    refine z_iconst C (pc := 75) d_MM_join_75 ?_
    obtain ⟨hc3, h⟩ := h
    refine z_icmp_ne (tgt := 113) C (pc := 76) d_MM_join_76 (by decide) hc3 (by decide) h (fun h => ?_) (fun h => ?_)
    · refine z_aload_n C (pc := 113) d_MM_join_113 0 rfl ?_
      refine z_iload_n C (pc := 114) d_MM_join_114 1 rfl ?_
      refine m_calli (As := [.int (zi v1)]) C fy_MM_inv rfl wd_903 (pc := 115) d_MM_join_115 ⟨rfl, rfl, Nat.le_of_ble_eq_true rfl, Nat.le_of_ble_eq_true rfl⟩ rfl rfl (Nat.le_of_ble_eq_true rfl) h (c_MM_inv (zln E) D g ad _ _ _) (fun r5 σ4 h => ?_)
      refine z_istore (L' := [(6, .int (zi r5)), (0, .ref (ad (0, 3))), (1, .int (zi v1)), (2, .int (zi v2)), (3, .int (zi v3)), (4, .int (zi v4)), (5, .int (zi v5))]) C (pc := 118) d_MM_join_118 (by decide) rfl ?_
      refine z_iload C (pc := 120) d_MM_join_120 5 rfl ?_
      refine z_if_ne (tgt := 135) C (pc := 122) d_MM_join_122 (by decide) hc3 h (fun h => ?_) (fun h => ?_)
      · refine z_aload_n C (pc := 135) d_MM_join_135 1 rfl ?_
        refine z_iload_n C (pc := 136) d_MM_join_136 4 rfl ?_
        refine m_calli (As := [.int (zi v3)]) C fy_MM_inv rfl wd_903 (pc := 137) d_MM_join_137 ⟨rfl, rfl, Nat.le_of_ble_eq_true rfl, Nat.le_of_ble_eq_true rfl⟩ rfl rfl (Nat.le_of_ble_eq_true rfl) h (c_MM_inv (zln E) D g ad _ _ _) (fun r7 σ6 h => ?_)
        refine z_sub [1, 5, 0] rfl ?_
        exact wk_MM_join_140 C R _ _ _ _ h
      · refine z_aload_n C (pc := 125) d_MM_join_125 1 rfl ?_
        refine z_iload C (pc := 126) d_MM_join_126 0 rfl ?_
        refine z_iload_n C (pc := 128) d_MM_join_128 4 rfl ?_
        refine m_calli (As := [.int (zi r5), .int (zi v3)]) C fy_MM_nand rfl wd_911 (pc := 129) d_MM_join_129 ⟨rfl, rfl, Nat.le_of_ble_eq_true rfl, Nat.le_of_ble_eq_true rfl⟩ rfl rfl (Nat.le_of_ble_eq_true rfl) h (c_MM_nand (zln E) D g ad _ _ _ _) (fun r14 σ13 h => ?_)
        refine z_goto (tgt := 140) C (pc := 132) d_MM_join_132 (by decide) ?_
        refine z_sub [1, 5, 0] rfl ?_
        exact wk_MM_join_140 C R _ _ _ _ h
    · refine z_aload_n C (pc := 79) d_MM_join_79 0 rfl ?_
      refine z_iload_n C (pc := 80) d_MM_join_80 1 rfl ?_
      refine z_iload C (pc := 81) d_MM_join_81 5 rfl ?_
      refine m_calli (As := [.int (zi v1), .int (zi v5)]) C fy_MM_nand rfl wd_911 (pc := 83) d_MM_join_83 ⟨rfl, rfl, Nat.le_of_ble_eq_true rfl, Nat.le_of_ble_eq_true rfl⟩ rfl rfl (Nat.le_of_ble_eq_true rfl) h (c_MM_nand (zln E) D g ad _ _ _ _) (fun r16 σ15 h => ?_)
      refine z_istore (L' := [(6, .int (zi r16)), (0, .ref (ad (0, 3))), (1, .int (zi v1)), (2, .int (zi v2)), (3, .int (zi v3)), (4, .int (zi v4)), (5, .int (zi v5))]) C (pc := 86) d_MM_join_86 (by decide) rfl ?_
      refine z_aload_n C (pc := 88) d_MM_join_88 1 rfl ?_
      refine z_iload_n C (pc := 89) d_MM_join_89 2 rfl ?_
      refine m_calli (As := [.int (zi v1)]) C fy_MM_inv rfl wd_903 (pc := 90) d_MM_join_90 ⟨rfl, rfl, Nat.le_of_ble_eq_true rfl, Nat.le_of_ble_eq_true rfl⟩ rfl rfl (Nat.le_of_ble_eq_true rfl) h (c_MM_inv (zln E) D g ad _ _ _) (fun r18 σ17 h => ?_)
      refine z_istore (L' := [(7, .int (zi r18)), (6, .int (zi r16)), (0, .ref (ad (0, 3))), (1, .int (zi v1)), (2, .int (zi v2)), (3, .int (zi v3)), (4, .int (zi v4)), (5, .int (zi v5))]) C (pc := 93) d_MM_join_93 (by decide) rfl ?_
      refine z_aload_n C (pc := 95) d_MM_join_95 2 rfl ?_
      refine z_iload C (pc := 96) d_MM_join_96 0 rfl ?_
      refine z_iload_n C (pc := 98) d_MM_join_98 5 rfl ?_
      refine m_calli (As := [.int (zi r18), .int (zi v3)]) C fy_MM_nand rfl wd_911 (pc := 99) d_MM_join_99 ⟨rfl, rfl, Nat.le_of_ble_eq_true rfl, Nat.le_of_ble_eq_true rfl⟩ rfl rfl (Nat.le_of_ble_eq_true rfl) h (c_MM_nand (zln E) D g ad _ _ _ _) (fun r20 σ19 h => ?_)
      refine z_istore (L' := [(8, .int (zi r20)), (7, .int (zi r18)), (6, .int (zi r16)), (0, .ref (ad (0, 3))), (1, .int (zi v1)), (2, .int (zi v2)), (3, .int (zi v3)), (4, .int (zi v4)), (5, .int (zi v5))]) C (pc := 102) d_MM_join_102 (by decide) rfl ?_
      refine z_aload_n C (pc := 104) d_MM_join_104 3 rfl ?_
      refine z_iload C (pc := 105) d_MM_join_105 2 rfl ?_
      refine z_iload C (pc := 107) d_MM_join_107 0 rfl ?_
      refine m_calli (As := [.int (zi r16), .int (zi r20)]) C fy_MM_nand rfl wd_911 (pc := 109) d_MM_join_109 ⟨rfl, rfl, Nat.le_of_ble_eq_true rfl, Nat.le_of_ble_eq_true rfl⟩ rfl rfl (Nat.le_of_ble_eq_true rfl) h (c_MM_nand (zln E) D g ad _ _ _ _) (fun r22 σ21 h => ?_)
      exact z_iret C R (pc := 112) d_MM_join_112 h
  · refine z_iload_n C (pc := 30) d_MM_join_30 2 rfl ?_
    refine z_if_ne (tgt := 44) C (pc := 31) d_MM_join_31 (by decide) hc2 h (fun h => ?_) (fun h => ?_)
    · refine z_aload_n C (pc := 44) d_MM_join_44 0 rfl ?_
      refine z_iload C (pc := 45) d_MM_join_45 5 rfl ?_
      refine m_calli (As := [.int (zi v5)]) C fy_MM_inv rfl wd_903 (pc := 47) d_MM_join_47 ⟨rfl, rfl, Nat.le_of_ble_eq_true rfl, Nat.le_of_ble_eq_true rfl⟩ rfl rfl (Nat.le_of_ble_eq_true rfl) h (c_MM_inv (zln E) D g ad _ _ _) (fun r24 σ23 h => ?_)
      refine z_sub [0, 1, 2] rfl ?_
      exact wk_MM_join_50 C R _ _ _ _ h
    · refine z_aload_n C (pc := 34) d_MM_join_34 0 rfl ?_
      refine z_iload_n C (pc := 35) d_MM_join_35 1 rfl ?_
      refine z_iload C (pc := 36) d_MM_join_36 5 rfl ?_
      refine m_calli (As := [.int (zi v1), .int (zi v5)]) C fy_MM_nand rfl wd_911 (pc := 38) d_MM_join_38 ⟨rfl, rfl, Nat.le_of_ble_eq_true rfl, Nat.le_of_ble_eq_true rfl⟩ rfl rfl (Nat.le_of_ble_eq_true rfl) h (c_MM_nand (zln E) D g ad _ _ _ _) (fun r31 σ30 h => ?_)
      refine z_goto (tgt := 50) C (pc := 41) d_MM_join_41 (by decide) ?_
      refine z_sub [0, 1, 2] rfl ?_
      exact wk_MM_join_50 C R _ _ _ _ h
set_option maxHeartbeats 4000000 in
set_option maxRecDepth 100000 in
theorem c_MM_join (l : Launch) (D : va_G) (g : zG) (ad : zA) (v1 : Int) (v2 : Int) (v3 : Int) (v4 : Int) (v5 : Int) (Q : Int → zS → Prop) (σ : zS) (h : wp_MM_join Q v1 v2 v3 v4 v5 σ) : zMi l y_MM_join b_MM_join 9 (some .int) { frames := 4, cells := 0, slots := 0, locals := 91 } D g ad σ [.ref (ad (0, 3)), .int (zi v1), .int (zi v2), .int (zi v3), .int (zi v4), .int (zi v5)] Q := by
  unfold wp_MM_join at h
  refine zM_of (by decide) (Nat.le_of_ble_eq_true rfl) (fun E C R hl => ?_)
  have C : zX E b_MM_join R_MM D g { frames := 4, cells := 0, slots := 0, locals := 91 } 9 := C
  refine z_sub (L' := [(0, .ref (ad (0, 3))), (1, .int (zi v1)), (2, .int (zi v2)), (3, .int (zi v3)), (4, .int (zi v4)), (5, .int (zi v5))]) [0, 1, 2, 3, 4, 5] rfl ?_
  refine z_iload_n C (pc := 0) d_MM_join_0 2 rfl ?_
  refine z_iconst C (pc := 1) d_MM_join_1 ?_
  obtain ⟨hc1, h⟩ := h
  refine z_icmp_ge (tgt := 25) C (pc := 2) d_MM_join_2 (by decide) hc1 (by decide) h (fun h => ?_) (fun h => ?_)
  · exact wk_MM_join_25 C R _ _ _ _ _ _ h
  · refine z_iload C (pc := 5) d_MM_join_5 4 rfl ?_
    refine z_iconst C (pc := 7) d_MM_join_7 ?_
    obtain ⟨hc32, h⟩ := h
    refine z_icmp_ge (tgt := 25) C (pc := 8) d_MM_join_8 (by decide) hc32 (by decide) h (fun h => ?_) (fun h => ?_)
    · exact wk_MM_join_25 C R _ _ _ _ _ _ h
    · refine z_iload_n C (pc := 11) d_MM_join_11 2 rfl ?_
      refine z_if_ne (tgt := 19) C (pc := 12) d_MM_join_12 (by decide) hc1 h (fun h => ?_) (fun h => ?_)
      · refine z_aload_n C (pc := 19) d_MM_join_19 0 rfl ?_
        refine z_iload_n C (pc := 20) d_MM_join_20 1 rfl ?_
        refine m_calli (As := [.int (zi v1)]) C fy_MM_inv rfl wd_903 (pc := 21) d_MM_join_21 ⟨rfl, rfl, Nat.le_of_ble_eq_true rfl, Nat.le_of_ble_eq_true rfl⟩ rfl rfl (Nat.le_of_ble_eq_true rfl) h (c_MM_inv (zln E) D g ad _ _ _) (fun r34 σ33 h => ?_)
        exact z_iret C R (pc := 24) d_MM_join_24 h
      · refine z_iload_n C (pc := 15) d_MM_join_15 1 rfl ?_
        refine z_goto (tgt := 24) C (pc := 16) d_MM_join_16 (by decide) ?_
        exact z_iret C R (pc := 24) d_MM_join_24 h
theorem d_MM_flat_0 : decode b_MM_flat 0 = .ok (.iload_n 0, 1) := by decide +kernel
theorem d_MM_flat_1 : decode b_MM_flat 1 = .ok (.ifCond .ne 7, 3) := by decide +kernel
theorem d_MM_flat_4 : decode b_MM_flat 4 = .ok (.iconst 0, 1) := by decide +kernel
theorem d_MM_flat_5 : decode b_MM_flat 5 = .ok (.goto 13, 3) := by decide +kernel
theorem d_MM_flat_8 : decode b_MM_flat 8 = .ok (.iload_n 0, 1) := by decide +kernel
theorem d_MM_flat_9 : decode b_MM_flat 9 = .ok (.iload_n 1, 1) := by decide +kernel
theorem d_MM_flat_10 : decode b_MM_flat 10 = .ok (.if_icmp .ne 7, 3) := by decide +kernel
theorem d_MM_flat_13 : decode b_MM_flat 13 = .ok (.iconst 1, 1) := by decide +kernel
theorem d_MM_flat_14 : decode b_MM_flat 14 = .ok (.goto 4, 3) := by decide +kernel
theorem d_MM_flat_17 : decode b_MM_flat 17 = .ok (.iconst 2, 1) := by decide +kernel
theorem d_MM_flat_18 : decode b_MM_flat 18 = .ok (.ireturn, 1) := by decide +kernel
def wp_MM_flat (Q : Int → zS → Prop) (v0 : Int) (v1 : Int) (σ : zS) : Prop :=
  zc v0 ∧ ((v0 = 0 →
    Q 0 σ) ∧
   (¬ v0 = 0 →
    zc v1 ∧ ((v0 = v1 →
      Q 1 σ) ∧
     (¬ v0 = v1 →
      Q 2 σ))))
set_option maxHeartbeats 4000000 in
set_option maxRecDepth 100000 in
theorem c_MM_flat (l : Launch) (D : va_G) (g : zG) (ad : zA) (v0 : Int) (v1 : Int) (Q : Int → zS → Prop) (σ : zS) (h : wp_MM_flat Q v0 v1 σ) : zMi l y_MM_flat b_MM_flat 2 (some .int) { frames := 0, cells := 0, slots := 0, locals := 0 } D g ad σ [.int (zi v0), .int (zi v1)] Q := by
  unfold wp_MM_flat at h
  refine zM_of (by decide) (Nat.le_of_ble_eq_true rfl) (fun E C R hl => ?_)
  have C : zX E b_MM_flat R_MM D g { frames := 0, cells := 0, slots := 0, locals := 0 } 2 := C
  refine z_sub (L' := [(0, .int (zi v0)), (1, .int (zi v1))]) [0, 1] rfl ?_
  refine z_iload_n C (pc := 0) d_MM_flat_0 0 rfl ?_
  obtain ⟨hc1, h⟩ := h
  refine z_if_ne (tgt := 8) C (pc := 1) d_MM_flat_1 (by decide) hc1 h (fun h => ?_) (fun h => ?_)
  · refine z_iload_n C (pc := 8) d_MM_flat_8 0 rfl ?_
    refine z_iload_n C (pc := 9) d_MM_flat_9 1 rfl ?_
    obtain ⟨hc2, h⟩ := h
    refine z_icmp_ne (tgt := 17) C (pc := 10) d_MM_flat_10 (by decide) hc1 hc2 h (fun h => ?_) (fun h => ?_)
    · refine z_iconst C (pc := 17) d_MM_flat_17 ?_
      exact z_iret C R (pc := 18) d_MM_flat_18 h
    · refine z_iconst C (pc := 13) d_MM_flat_13 ?_
      refine z_goto (tgt := 18) C (pc := 14) d_MM_flat_14 (by decide) ?_
      exact z_iret C R (pc := 18) d_MM_flat_18 h
  · refine z_iconst C (pc := 4) d_MM_flat_4 ?_
    refine z_goto (tgt := 18) C (pc := 5) d_MM_flat_5 (by decide) ?_
    exact z_iret C R (pc := 18) d_MM_flat_18 h
theorem d_MM_overOne_0 : decode b_MM_overOne 0 = .ok (.aload_n 0, 1) := by decide +kernel
theorem d_MM_overOne_1 : decode b_MM_overOne 1 = .ok (.aload_n 0, 1) := by decide +kernel
theorem d_MM_overOne_2 : decode b_MM_overOne 2 = .ok (.getfield 13, 3) := by decide +kernel
theorem d_MM_overOne_5 : decode b_MM_overOne 5 = .ok (.iload_n 1, 1) := by decide +kernel
theorem d_MM_overOne_6 : decode b_MM_overOne 6 = .ok (.iaload, 1) := by decide +kernel
theorem d_MM_overOne_7 : decode b_MM_overOne 7 = .ok (.iload_n 2, 1) := by decide +kernel
theorem d_MM_overOne_8 : decode b_MM_overOne 8 = .ok (.iconst 1, 1) := by decide +kernel
theorem d_MM_overOne_9 : decode b_MM_overOne 9 = .ok (.iand, 1) := by decide +kernel
theorem d_MM_overOne_10 : decode b_MM_overOne 10 = .ok (.iconst 0, 1) := by decide +kernel
theorem d_MM_overOne_11 : decode b_MM_overOne 11 = .ok (.iload_n 2, 1) := by decide +kernel
theorem d_MM_overOne_12 : decode b_MM_overOne 12 = .ok (.iconst 1, 1) := by decide +kernel
theorem d_MM_overOne_13 : decode b_MM_overOne 13 = .ok (.ishr, 1) := by decide +kernel
theorem d_MM_overOne_14 : decode b_MM_overOne 14 = .ok (.iconst 0, 1) := by decide +kernel
theorem d_MM_overOne_15 : decode b_MM_overOne 15 = .ok (.invokevirtual 155, 3) := by decide +kernel
theorem d_MM_overOne_18 : decode b_MM_overOne 18 = .ok (.ireturn, 1) := by decide +kernel
def wp_MM_overOne (Q : Int → zS → Prop) (v1 : Int) (v2 : Int) (σ : zS) : Prop :=
  0 ≤ v1 ∧ v1 < 40 ∧ 
  wp_MM_join (fun r4 σ3 =>
    Q r4 σ3) (σ 102 v1) (zand v2 1) 0 (zshr v2 1) 0 σ
set_option maxHeartbeats 4000000 in
set_option maxRecDepth 100000 in
theorem c_MM_overOne (l : Launch) (D : va_G) (g : zG) (ad : zA) (v1 : Int) (v2 : Int) (Q : Int → zS → Prop) (σ : zS) (h : wp_MM_overOne Q v1 v2 σ) : zMi l y_MM_overOne b_MM_overOne 3 (some .int) { frames := 5, cells := 0, slots := 0, locals := 119 } D g ad σ [.ref (ad (0, 3)), .int (zi v1), .int (zi v2)] Q := by
  unfold wp_MM_overOne at h
  refine zM_of (by decide) (Nat.le_of_ble_eq_true rfl) (fun E C R hl => ?_)
  have C : zX E b_MM_overOne R_MM D g { frames := 5, cells := 0, slots := 0, locals := 119 } 3 := C
  refine z_sub (L' := [(0, .ref (ad (0, 3))), (1, .int (zi v1)), (2, .int (zi v2))]) [0, 1, 2] rfl ?_
  refine z_aload_n C (pc := 0) d_MM_overOne_0 0 rfl ?_
  refine z_aload_n C (pc := 1) d_MM_overOne_1 0 rfl ?_
  refine m_getA C 2 (by decide) rfl wd_706 (pc := 2) d_MM_overOne_2 ?_
  refine z_iload_n C (pc := 5) d_MM_overOne_5 1 rfl ?_
  obtain ⟨hc1, hc2, h⟩ := h
  refine m_iald C 2 102 40 rfl rfl (by decide) hc1 hc2 (pc := 6) d_MM_overOne_6 ?_
  refine z_iload_n C (pc := 7) d_MM_overOne_7 2 rfl ?_
  refine z_iconst C (pc := 8) d_MM_overOne_8 ?_
  refine z_iand C (pc := 9) d_MM_overOne_9 ?_
  refine z_iconst C (pc := 10) d_MM_overOne_10 ?_
  refine z_iload_n C (pc := 11) d_MM_overOne_11 2 rfl ?_
  refine z_iconst C (pc := 12) d_MM_overOne_12 ?_
  refine z_ishr C (pc := 13) d_MM_overOne_13 ?_
  refine z_iconst C (pc := 14) d_MM_overOne_14 ?_
  refine m_calli (As := [.int (zi (σ 102 v1)), .int (zi (zand v2 1)), .int (zi 0), .int (zi (zshr v2 1)), .int (zi 0)]) C fy_MM_join rfl wd_899 (pc := 15) d_MM_overOne_15 ⟨rfl, rfl, Nat.le_of_ble_eq_true rfl, Nat.le_of_ble_eq_true rfl⟩ rfl rfl (Nat.le_of_ble_eq_true rfl) h (c_MM_join (zln E) D g ad _ _ _ _ _ _ _) (fun r4 σ3 h => ?_)
  exact z_iret C R (pc := 18) d_MM_overOne_18 h
theorem d_MM_overTwo_0 : decode b_MM_overTwo 0 = .ok (.iload_n 3, 1) := by decide +kernel
theorem d_MM_overTwo_1 : decode b_MM_overTwo 1 = .ok (.iconst 3, 1) := by decide +kernel
theorem d_MM_overTwo_2 : decode b_MM_overTwo 2 = .ok (.iand, 1) := by decide +kernel
theorem d_MM_overTwo_3 : decode b_MM_overTwo 3 = .ok (.istore 4, 2) := by decide +kernel
theorem d_MM_overTwo_5 : decode b_MM_overTwo 5 = .ok (.iload_n 3, 1) := by decide +kernel
theorem d_MM_overTwo_6 : decode b_MM_overTwo 6 = .ok (.iconst 2, 1) := by decide +kernel
theorem d_MM_overTwo_7 : decode b_MM_overTwo 7 = .ok (.ishr, 1) := by decide +kernel
theorem d_MM_overTwo_8 : decode b_MM_overTwo 8 = .ok (.istore 5, 2) := by decide +kernel
theorem d_MM_overTwo_10 : decode b_MM_overTwo 10 = .ok (.iload 4, 2) := by decide +kernel
theorem d_MM_overTwo_12 : decode b_MM_overTwo 12 = .ok (.iload 5, 2) := by decide +kernel
theorem d_MM_overTwo_14 : decode b_MM_overTwo 14 = .ok (.if_icmp .ne 11, 3) := by decide +kernel
theorem d_MM_overTwo_17 : decode b_MM_overTwo 17 = .ok (.aload_n 0, 1) := by decide +kernel
theorem d_MM_overTwo_18 : decode b_MM_overTwo 18 = .ok (.iload_n 1, 1) := by decide +kernel
theorem d_MM_overTwo_19 : decode b_MM_overTwo 19 = .ok (.iload 4, 2) := by decide +kernel
theorem d_MM_overTwo_21 : decode b_MM_overTwo 21 = .ok (.invokevirtual 159, 3) := by decide +kernel
theorem d_MM_overTwo_24 : decode b_MM_overTwo 24 = .ok (.ireturn, 1) := by decide +kernel
theorem d_MM_overTwo_25 : decode b_MM_overTwo 25 = .ok (.iload 4, 2) := by decide +kernel
theorem d_MM_overTwo_27 : decode b_MM_overTwo 27 = .ok (.iconst 3, 1) := by decide +kernel
theorem d_MM_overTwo_28 : decode b_MM_overTwo 28 = .ok (.invokestatic 162, 3) := by decide +kernel
theorem d_MM_overTwo_31 : decode b_MM_overTwo 31 = .ok (.iconst 2, 1) := by decide +kernel
theorem d_MM_overTwo_32 : decode b_MM_overTwo 32 = .ok (.if_icmp .ne 13, 3) := by decide +kernel
theorem d_MM_overTwo_35 : decode b_MM_overTwo 35 = .ok (.aload_n 0, 1) := by decide +kernel
theorem d_MM_overTwo_36 : decode b_MM_overTwo 36 = .ok (.iload_n 1, 1) := by decide +kernel
theorem d_MM_overTwo_37 : decode b_MM_overTwo 37 = .ok (.iload 4, 2) := by decide +kernel
theorem d_MM_overTwo_39 : decode b_MM_overTwo 39 = .ok (.invokevirtual 159, 3) := by decide +kernel
theorem d_MM_overTwo_42 : decode b_MM_overTwo 42 = .ok (.goto 4, 3) := by decide +kernel
theorem d_MM_overTwo_45 : decode b_MM_overTwo 45 = .ok (.iconst 0, 1) := by decide +kernel
theorem d_MM_overTwo_46 : decode b_MM_overTwo 46 = .ok (.istore 6, 2) := by decide +kernel
theorem d_MM_overTwo_48 : decode b_MM_overTwo 48 = .ok (.iload 5, 2) := by decide +kernel
theorem d_MM_overTwo_50 : decode b_MM_overTwo 50 = .ok (.iconst 3, 1) := by decide +kernel
theorem d_MM_overTwo_51 : decode b_MM_overTwo 51 = .ok (.invokestatic 162, 3) := by decide +kernel
theorem d_MM_overTwo_54 : decode b_MM_overTwo 54 = .ok (.iconst 2, 1) := by decide +kernel
theorem d_MM_overTwo_55 : decode b_MM_overTwo 55 = .ok (.if_icmp .ne 13, 3) := by decide +kernel
theorem d_MM_overTwo_58 : decode b_MM_overTwo 58 = .ok (.aload_n 0, 1) := by decide +kernel
theorem d_MM_overTwo_59 : decode b_MM_overTwo 59 = .ok (.iload_n 1, 1) := by decide +kernel
theorem d_MM_overTwo_60 : decode b_MM_overTwo 60 = .ok (.iload 5, 2) := by decide +kernel
theorem d_MM_overTwo_62 : decode b_MM_overTwo 62 = .ok (.invokevirtual 159, 3) := by decide +kernel
theorem d_MM_overTwo_65 : decode b_MM_overTwo 65 = .ok (.goto 4, 3) := by decide +kernel
theorem d_MM_overTwo_68 : decode b_MM_overTwo 68 = .ok (.iconst 0, 1) := by decide +kernel
theorem d_MM_overTwo_69 : decode b_MM_overTwo 69 = .ok (.istore 7, 2) := by decide +kernel
theorem d_MM_overTwo_71 : decode b_MM_overTwo 71 = .ok (.aload_n 0, 1) := by decide +kernel
theorem d_MM_overTwo_72 : decode b_MM_overTwo 72 = .ok (.aload_n 0, 1) := by decide +kernel
theorem d_MM_overTwo_73 : decode b_MM_overTwo 73 = .ok (.getfield 13, 3) := by decide +kernel
theorem d_MM_overTwo_76 : decode b_MM_overTwo 76 = .ok (.iload_n 2, 1) := by decide +kernel
theorem d_MM_overTwo_77 : decode b_MM_overTwo 77 = .ok (.iaload, 1) := by decide +kernel
theorem d_MM_overTwo_78 : decode b_MM_overTwo 78 = .ok (.iload 4, 2) := by decide +kernel
theorem d_MM_overTwo_80 : decode b_MM_overTwo 80 = .ok (.iconst 3, 1) := by decide +kernel
theorem d_MM_overTwo_81 : decode b_MM_overTwo 81 = .ok (.invokestatic 162, 3) := by decide +kernel
theorem d_MM_overTwo_84 : decode b_MM_overTwo 84 = .ok (.iload 6, 2) := by decide +kernel
theorem d_MM_overTwo_86 : decode b_MM_overTwo 86 = .ok (.iload 5, 2) := by decide +kernel
theorem d_MM_overTwo_88 : decode b_MM_overTwo 88 = .ok (.iconst 3, 1) := by decide +kernel
theorem d_MM_overTwo_89 : decode b_MM_overTwo 89 = .ok (.invokestatic 162, 3) := by decide +kernel
theorem d_MM_overTwo_92 : decode b_MM_overTwo 92 = .ok (.iload 7, 2) := by decide +kernel
theorem d_MM_overTwo_94 : decode b_MM_overTwo 94 = .ok (.invokevirtual 155, 3) := by decide +kernel
theorem d_MM_overTwo_97 : decode b_MM_overTwo 97 = .ok (.ireturn, 1) := by decide +kernel
def bk_MM_overTwo_69 (Q : Int → zS → Prop) (v2 : Int) (v4 : Int) (v5 : Int) (v6 : Int) (z0 : Int) (σ : zS) : Prop :=
  0 ≤ v2 ∧ v2 < 40 ∧ 
  wp_MM_flat (fun r12 σ11 =>
    wp_MM_flat (fun r14 σ13 =>
      wp_MM_join (fun r16 σ15 =>
        Q r16 σ15) (σ 102 v2) r12 v6 r14 z0 σ13) v5 3 σ11) v4 3 σ
def bk_MM_overTwo_46 (Q : Int → zS → Prop) (v1 : Int) (v2 : Int) (v4 : Int) (v5 : Int) (z0 : Int) (σ : zS) : Prop :=
  wp_MM_flat (fun r7 σ6 =>
    zc r7 ∧ ((r7 = 2 →
      wp_MM_overOne (fun r18 σ17 =>
        bk_MM_overTwo_69 Q v2 v4 v5 z0 r18 σ17) v1 v5 σ6) ∧
     (¬ r7 = 2 →
      bk_MM_overTwo_69 Q v2 v4 v5 z0 0 σ6))) v5 3 σ
def wp_MM_overTwo (Q : Int → zS → Prop) (v1 : Int) (v2 : Int) (v3 : Int) (σ : zS) : Prop :=
  ∀ y1, y1 = zand v3 3 →
  ∀ y2, y2 = zshr v3 2 →
  ((y1 = y2 →
    wp_MM_overOne (fun r22 σ21 =>
      Q r22 σ21) v1 y1 σ) ∧
   (¬ y1 = y2 →
    wp_MM_flat (fun r4 σ3 =>
      zc r4 ∧ ((r4 = 2 →
        wp_MM_overOne (fun r20 σ19 =>
          bk_MM_overTwo_46 Q v1 v2 y1 y2 r20 σ19) v1 y1 σ3) ∧
       (¬ r4 = 2 →
        bk_MM_overTwo_46 Q v1 v2 y1 y2 0 σ3))) y1 3 σ))
set_option maxHeartbeats 4000000 in
set_option maxRecDepth 100000 in
theorem wk_MM_overTwo_69 {E : zE} {D : va_G} {g : zG} {A : Nat → Prop} {ad : zA} {Q : Int → zS → Prop} (C : zX E b_MM_overTwo R_MM D g { frames := 6, cells := 0, slots := 0, locals := 141 } 8) (R : zRt E (some .int) (zQi D g ad Q A) 0 0 A) (v2 : Int) (v4 : Int) (v5 : Int) (v6 : Int) (z0 : Int) (σ : zS) (h : bk_MM_overTwo_69 Q v2 v4 v5 v6 z0 σ) : zW E (zOK D A (zst E) g ad) 0 0 69 [(0, .ref (ad (0, 3))), (2, .int (zi v2)), (4, .int (zi v4)), (5, .int (zi v5)), (6, .int (zi v6))] [.int (zi z0)] σ := by
  unfold bk_MM_overTwo_69 at h
  refine z_istore (L' := [(7, .int (zi z0)), (0, .ref (ad (0, 3))), (2, .int (zi v2)), (4, .int (zi v4)), (5, .int (zi v5)), (6, .int (zi v6))]) C (pc := 69) d_MM_overTwo_69 (by decide) rfl ?_
  refine z_aload_n C (pc := 71) d_MM_overTwo_71 1 rfl ?_
  refine z_aload_n C (pc := 72) d_MM_overTwo_72 1 rfl ?_
  refine m_getA C 2 (by decide) rfl wd_706 (pc := 73) d_MM_overTwo_73 ?_
  refine z_iload_n C (pc := 76) d_MM_overTwo_76 2 rfl ?_
  obtain ⟨hc9, hc10, h⟩ := h
  refine m_iald C 2 102 40 rfl rfl (by decide) hc9 hc10 (pc := 77) d_MM_overTwo_77 ?_
  refine z_iload C (pc := 78) d_MM_overTwo_78 3 rfl ?_
  refine z_iconst C (pc := 80) d_MM_overTwo_80 ?_
  refine z_callSi (As := [.int (zi v4), .int (zi 3)]) C fs_MM_flat rfl wd_915 (pc := 81) d_MM_overTwo_81 ⟨rfl, rfl, Nat.le_of_ble_eq_true rfl, Nat.le_of_ble_eq_true rfl⟩ rfl rfl (Nat.le_of_ble_eq_true rfl) h (c_MM_flat (zln E) D g ad _ _ _ _) (fun r12 σ11 h => ?_)
  refine z_iload C (pc := 84) d_MM_overTwo_84 5 rfl ?_
  refine z_iload C (pc := 86) d_MM_overTwo_86 4 rfl ?_
  refine z_iconst C (pc := 88) d_MM_overTwo_88 ?_
  refine z_callSi (As := [.int (zi v5), .int (zi 3)]) C fs_MM_flat rfl wd_915 (pc := 89) d_MM_overTwo_89 ⟨rfl, rfl, Nat.le_of_ble_eq_true rfl, Nat.le_of_ble_eq_true rfl⟩ rfl rfl (Nat.le_of_ble_eq_true rfl) h (c_MM_flat (zln E) D g ad _ _ _ _) (fun r14 σ13 h => ?_)
  refine z_iload C (pc := 92) d_MM_overTwo_92 0 rfl ?_
  refine m_calli (As := [.int (zi (σ 102 v2)), .int (zi r12), .int (zi v6), .int (zi r14), .int (zi z0)]) C fy_MM_join rfl wd_899 (pc := 94) d_MM_overTwo_94 ⟨rfl, rfl, Nat.le_of_ble_eq_true rfl, Nat.le_of_ble_eq_true rfl⟩ rfl rfl (Nat.le_of_ble_eq_true rfl) h (c_MM_join (zln E) D g ad _ _ _ _ _ _ _) (fun r16 σ15 h => ?_)
  exact z_iret C R (pc := 97) d_MM_overTwo_97 h
set_option maxHeartbeats 4000000 in
set_option maxRecDepth 100000 in
theorem wk_MM_overTwo_46 {E : zE} {D : va_G} {g : zG} {A : Nat → Prop} {ad : zA} {Q : Int → zS → Prop} (C : zX E b_MM_overTwo R_MM D g { frames := 6, cells := 0, slots := 0, locals := 141 } 8) (R : zRt E (some .int) (zQi D g ad Q A) 0 0 A) (v1 : Int) (v2 : Int) (v4 : Int) (v5 : Int) (z0 : Int) (σ : zS) (h : bk_MM_overTwo_46 Q v1 v2 v4 v5 z0 σ) : zW E (zOK D A (zst E) g ad) 0 0 46 [(0, .ref (ad (0, 3))), (1, .int (zi v1)), (2, .int (zi v2)), (4, .int (zi v4)), (5, .int (zi v5))] [.int (zi z0)] σ := by
  unfold bk_MM_overTwo_46 at h
  refine z_istore (L' := [(6, .int (zi z0)), (0, .ref (ad (0, 3))), (1, .int (zi v1)), (2, .int (zi v2)), (4, .int (zi v4)), (5, .int (zi v5))]) C (pc := 46) d_MM_overTwo_46 (by decide) rfl ?_
  refine z_iload C (pc := 48) d_MM_overTwo_48 5 rfl ?_
  refine z_iconst C (pc := 50) d_MM_overTwo_50 ?_
  refine z_callSi (As := [.int (zi v5), .int (zi 3)]) C fs_MM_flat rfl wd_915 (pc := 51) d_MM_overTwo_51 ⟨rfl, rfl, Nat.le_of_ble_eq_true rfl, Nat.le_of_ble_eq_true rfl⟩ rfl rfl (Nat.le_of_ble_eq_true rfl) h (c_MM_flat (zln E) D g ad _ _ _ _) (fun r7 σ6 h => ?_)
  refine z_iconst C (pc := 54) d_MM_overTwo_54 ?_
  obtain ⟨hc8, h⟩ := h
  refine z_icmp_ne (tgt := 68) C (pc := 55) d_MM_overTwo_55 (by decide) hc8 (by decide) h (fun h => ?_) (fun h => ?_)
  · refine z_iconst C (pc := 68) d_MM_overTwo_68 ?_
    refine z_sub [1, 3, 4, 5, 0] rfl ?_
    exact wk_MM_overTwo_69 C R _ _ _ _ _ _ h
  · refine z_aload_n C (pc := 58) d_MM_overTwo_58 1 rfl ?_
    refine z_iload_n C (pc := 59) d_MM_overTwo_59 2 rfl ?_
    refine z_iload C (pc := 60) d_MM_overTwo_60 5 rfl ?_
    refine m_calli (As := [.int (zi v1), .int (zi v5)]) C fy_MM_overOne rfl wd_895 (pc := 62) d_MM_overTwo_62 ⟨rfl, rfl, Nat.le_of_ble_eq_true rfl, Nat.le_of_ble_eq_true rfl⟩ rfl rfl (Nat.le_of_ble_eq_true rfl) h (c_MM_overOne (zln E) D g ad _ _ _ _) (fun r18 σ17 h => ?_)
    refine z_goto (tgt := 69) C (pc := 65) d_MM_overTwo_65 (by decide) ?_
    refine z_sub [1, 3, 4, 5, 0] rfl ?_
    exact wk_MM_overTwo_69 C R _ _ _ _ _ _ h
set_option maxHeartbeats 4000000 in
set_option maxRecDepth 100000 in
theorem c_MM_overTwo (l : Launch) (D : va_G) (g : zG) (ad : zA) (v1 : Int) (v2 : Int) (v3 : Int) (Q : Int → zS → Prop) (σ : zS) (h : wp_MM_overTwo Q v1 v2 v3 σ) : zMi l y_MM_overTwo b_MM_overTwo 8 (some .int) { frames := 6, cells := 0, slots := 0, locals := 141 } D g ad σ [.ref (ad (0, 3)), .int (zi v1), .int (zi v2), .int (zi v3)] Q := by
  unfold wp_MM_overTwo at h
  refine zM_of (by decide) (Nat.le_of_ble_eq_true rfl) (fun E C R hl => ?_)
  have C : zX E b_MM_overTwo R_MM D g { frames := 6, cells := 0, slots := 0, locals := 141 } 8 := C
  refine z_sub (L' := [(0, .ref (ad (0, 3))), (1, .int (zi v1)), (2, .int (zi v2)), (3, .int (zi v3))]) [0, 1, 2, 3] rfl ?_
  refine z_iload_n C (pc := 0) d_MM_overTwo_0 3 rfl ?_
  refine z_iconst C (pc := 1) d_MM_overTwo_1 ?_
  refine z_iand C (pc := 2) d_MM_overTwo_2 ?_
  refine zNi h (fun y1 ey1 h => ?_)
  refine z_istore (L' := [(4, .int (zi y1)), (0, .ref (ad (0, 3))), (1, .int (zi v1)), (2, .int (zi v2)), (3, .int (zi v3))]) C (pc := 3) d_MM_overTwo_3 (by decide) rfl ?_
  refine z_iload_n C (pc := 5) d_MM_overTwo_5 4 rfl ?_
  refine z_iconst C (pc := 6) d_MM_overTwo_6 ?_
  refine z_ishr C (pc := 7) d_MM_overTwo_7 ?_
  refine zNi h (fun y2 ey2 h => ?_)
  refine z_istore (L' := [(5, .int (zi y2)), (4, .int (zi y1)), (0, .ref (ad (0, 3))), (1, .int (zi v1)), (2, .int (zi v2)), (3, .int (zi v3))]) C (pc := 8) d_MM_overTwo_8 (by decide) rfl ?_
  refine z_iload C (pc := 10) d_MM_overTwo_10 1 rfl ?_
  refine z_iload C (pc := 12) d_MM_overTwo_12 0 rfl ?_
  refine z_icmp_ne (tgt := 25) C (pc := 14) d_MM_overTwo_14 (by decide) (ey1 ▸ zc_and _ _) (ey2 ▸ zc_shr _ _) h (fun h => ?_) (fun h => ?_)
  · refine z_iload C (pc := 25) d_MM_overTwo_25 1 rfl ?_
    refine z_iconst C (pc := 27) d_MM_overTwo_27 ?_
    refine z_callSi (As := [.int (zi y1), .int (zi 3)]) C fs_MM_flat rfl wd_915 (pc := 28) d_MM_overTwo_28 ⟨rfl, rfl, Nat.le_of_ble_eq_true rfl, Nat.le_of_ble_eq_true rfl⟩ rfl rfl (Nat.le_of_ble_eq_true rfl) h (c_MM_flat (zln E) D g ad _ _ _ _) (fun r4 σ3 h => ?_)
    refine z_iconst C (pc := 31) d_MM_overTwo_31 ?_
    obtain ⟨hc5, h⟩ := h
    refine z_icmp_ne (tgt := 45) C (pc := 32) d_MM_overTwo_32 (by decide) hc5 (by decide) h (fun h => ?_) (fun h => ?_)
    · refine z_iconst C (pc := 45) d_MM_overTwo_45 ?_
      refine z_sub [2, 3, 4, 1, 0] rfl ?_
      exact wk_MM_overTwo_46 C R _ _ _ _ _ _ h
    · refine z_aload_n C (pc := 35) d_MM_overTwo_35 2 rfl ?_
      refine z_iload_n C (pc := 36) d_MM_overTwo_36 3 rfl ?_
      refine z_iload C (pc := 37) d_MM_overTwo_37 1 rfl ?_
      refine m_calli (As := [.int (zi v1), .int (zi y1)]) C fy_MM_overOne rfl wd_895 (pc := 39) d_MM_overTwo_39 ⟨rfl, rfl, Nat.le_of_ble_eq_true rfl, Nat.le_of_ble_eq_true rfl⟩ rfl rfl (Nat.le_of_ble_eq_true rfl) h (c_MM_overOne (zln E) D g ad _ _ _ _) (fun r20 σ19 h => ?_)
      refine z_goto (tgt := 46) C (pc := 42) d_MM_overTwo_42 (by decide) ?_
      refine z_sub [2, 3, 4, 1, 0] rfl ?_
      exact wk_MM_overTwo_46 C R _ _ _ _ _ _ h
  · refine z_aload_n C (pc := 17) d_MM_overTwo_17 2 rfl ?_
    refine z_iload_n C (pc := 18) d_MM_overTwo_18 3 rfl ?_
    refine z_iload C (pc := 19) d_MM_overTwo_19 1 rfl ?_
    refine m_calli (As := [.int (zi v1), .int (zi y1)]) C fy_MM_overOne rfl wd_895 (pc := 21) d_MM_overTwo_21 ⟨rfl, rfl, Nat.le_of_ble_eq_true rfl, Nat.le_of_ble_eq_true rfl⟩ rfl rfl (Nat.le_of_ble_eq_true rfl) h (c_MM_overOne (zln E) D g ad _ _ _ _) (fun r22 σ21 h => ?_)
    exact z_iret C R (pc := 24) d_MM_overTwo_24 h
theorem d_MM_overThree_0 : decode b_MM_overThree 0 = .ok (.iload 4, 2) := by decide +kernel
theorem d_MM_overThree_2 : decode b_MM_overThree 2 = .ok (.bipush 15, 2) := by decide +kernel
theorem d_MM_overThree_4 : decode b_MM_overThree 4 = .ok (.iand, 1) := by decide +kernel
theorem d_MM_overThree_5 : decode b_MM_overThree 5 = .ok (.istore 5, 2) := by decide +kernel
theorem d_MM_overThree_7 : decode b_MM_overThree 7 = .ok (.iload 4, 2) := by decide +kernel
theorem d_MM_overThree_9 : decode b_MM_overThree 9 = .ok (.iconst 4, 1) := by decide +kernel
theorem d_MM_overThree_10 : decode b_MM_overThree 10 = .ok (.ishr, 1) := by decide +kernel
theorem d_MM_overThree_11 : decode b_MM_overThree 11 = .ok (.istore 6, 2) := by decide +kernel
theorem d_MM_overThree_13 : decode b_MM_overThree 13 = .ok (.iload 5, 2) := by decide +kernel
theorem d_MM_overThree_15 : decode b_MM_overThree 15 = .ok (.iload 6, 2) := by decide +kernel
theorem d_MM_overThree_17 : decode b_MM_overThree 17 = .ok (.if_icmp .ne 12, 3) := by decide +kernel
theorem d_MM_overThree_20 : decode b_MM_overThree 20 = .ok (.aload_n 0, 1) := by decide +kernel
theorem d_MM_overThree_21 : decode b_MM_overThree 21 = .ok (.iload_n 1, 1) := by decide +kernel
theorem d_MM_overThree_22 : decode b_MM_overThree 22 = .ok (.iload_n 2, 1) := by decide +kernel
theorem d_MM_overThree_23 : decode b_MM_overThree 23 = .ok (.iload 5, 2) := by decide +kernel
theorem d_MM_overThree_25 : decode b_MM_overThree 25 = .ok (.invokevirtual 165, 3) := by decide +kernel
theorem d_MM_overThree_28 : decode b_MM_overThree 28 = .ok (.ireturn, 1) := by decide +kernel
theorem d_MM_overThree_29 : decode b_MM_overThree 29 = .ok (.iload 5, 2) := by decide +kernel
theorem d_MM_overThree_31 : decode b_MM_overThree 31 = .ok (.bipush 15, 2) := by decide +kernel
theorem d_MM_overThree_33 : decode b_MM_overThree 33 = .ok (.invokestatic 162, 3) := by decide +kernel
theorem d_MM_overThree_36 : decode b_MM_overThree 36 = .ok (.iconst 2, 1) := by decide +kernel
theorem d_MM_overThree_37 : decode b_MM_overThree 37 = .ok (.if_icmp .ne 14, 3) := by decide +kernel
theorem d_MM_overThree_40 : decode b_MM_overThree 40 = .ok (.aload_n 0, 1) := by decide +kernel
theorem d_MM_overThree_41 : decode b_MM_overThree 41 = .ok (.iload_n 1, 1) := by decide +kernel
theorem d_MM_overThree_42 : decode b_MM_overThree 42 = .ok (.iload_n 2, 1) := by decide +kernel
theorem d_MM_overThree_43 : decode b_MM_overThree 43 = .ok (.iload 5, 2) := by decide +kernel
theorem d_MM_overThree_45 : decode b_MM_overThree 45 = .ok (.invokevirtual 165, 3) := by decide +kernel
theorem d_MM_overThree_48 : decode b_MM_overThree 48 = .ok (.goto 4, 3) := by decide +kernel
theorem d_MM_overThree_51 : decode b_MM_overThree 51 = .ok (.iconst 0, 1) := by decide +kernel
theorem d_MM_overThree_52 : decode b_MM_overThree 52 = .ok (.istore 7, 2) := by decide +kernel
theorem d_MM_overThree_54 : decode b_MM_overThree 54 = .ok (.iload 6, 2) := by decide +kernel
theorem d_MM_overThree_56 : decode b_MM_overThree 56 = .ok (.bipush 15, 2) := by decide +kernel
theorem d_MM_overThree_58 : decode b_MM_overThree 58 = .ok (.invokestatic 162, 3) := by decide +kernel
theorem d_MM_overThree_61 : decode b_MM_overThree 61 = .ok (.iconst 2, 1) := by decide +kernel
theorem d_MM_overThree_62 : decode b_MM_overThree 62 = .ok (.if_icmp .ne 14, 3) := by decide +kernel
theorem d_MM_overThree_65 : decode b_MM_overThree 65 = .ok (.aload_n 0, 1) := by decide +kernel
theorem d_MM_overThree_66 : decode b_MM_overThree 66 = .ok (.iload_n 1, 1) := by decide +kernel
theorem d_MM_overThree_67 : decode b_MM_overThree 67 = .ok (.iload_n 2, 1) := by decide +kernel
theorem d_MM_overThree_68 : decode b_MM_overThree 68 = .ok (.iload 6, 2) := by decide +kernel
theorem d_MM_overThree_70 : decode b_MM_overThree 70 = .ok (.invokevirtual 165, 3) := by decide +kernel
theorem d_MM_overThree_73 : decode b_MM_overThree 73 = .ok (.goto 4, 3) := by decide +kernel
theorem d_MM_overThree_76 : decode b_MM_overThree 76 = .ok (.iconst 0, 1) := by decide +kernel
theorem d_MM_overThree_77 : decode b_MM_overThree 77 = .ok (.istore 8, 2) := by decide +kernel
theorem d_MM_overThree_79 : decode b_MM_overThree 79 = .ok (.aload_n 0, 1) := by decide +kernel
theorem d_MM_overThree_80 : decode b_MM_overThree 80 = .ok (.aload_n 0, 1) := by decide +kernel
theorem d_MM_overThree_81 : decode b_MM_overThree 81 = .ok (.getfield 13, 3) := by decide +kernel
theorem d_MM_overThree_84 : decode b_MM_overThree 84 = .ok (.iload_n 3, 1) := by decide +kernel
theorem d_MM_overThree_85 : decode b_MM_overThree 85 = .ok (.iaload, 1) := by decide +kernel
theorem d_MM_overThree_86 : decode b_MM_overThree 86 = .ok (.iload 5, 2) := by decide +kernel
theorem d_MM_overThree_88 : decode b_MM_overThree 88 = .ok (.bipush 15, 2) := by decide +kernel
theorem d_MM_overThree_90 : decode b_MM_overThree 90 = .ok (.invokestatic 162, 3) := by decide +kernel
theorem d_MM_overThree_93 : decode b_MM_overThree 93 = .ok (.iload 7, 2) := by decide +kernel
theorem d_MM_overThree_95 : decode b_MM_overThree 95 = .ok (.iload 6, 2) := by decide +kernel
theorem d_MM_overThree_97 : decode b_MM_overThree 97 = .ok (.bipush 15, 2) := by decide +kernel
theorem d_MM_overThree_99 : decode b_MM_overThree 99 = .ok (.invokestatic 162, 3) := by decide +kernel
theorem d_MM_overThree_102 : decode b_MM_overThree 102 = .ok (.iload 8, 2) := by decide +kernel
theorem d_MM_overThree_104 : decode b_MM_overThree 104 = .ok (.invokevirtual 155, 3) := by decide +kernel
theorem d_MM_overThree_107 : decode b_MM_overThree 107 = .ok (.ireturn, 1) := by decide +kernel
def bk_MM_overThree_77 (Q : Int → zS → Prop) (v3 : Int) (v5 : Int) (v6 : Int) (v7 : Int) (z0 : Int) (σ : zS) : Prop :=
  0 ≤ v3 ∧ v3 < 40 ∧ 
  wp_MM_flat (fun r12 σ11 =>
    wp_MM_flat (fun r14 σ13 =>
      wp_MM_join (fun r16 σ15 =>
        Q r16 σ15) (σ 102 v3) r12 v7 r14 z0 σ13) v6 15 σ11) v5 15 σ
def bk_MM_overThree_52 (Q : Int → zS → Prop) (v1 : Int) (v2 : Int) (v3 : Int) (v5 : Int) (v6 : Int) (z0 : Int) (σ : zS) : Prop :=
  wp_MM_flat (fun r7 σ6 =>
    zc r7 ∧ ((r7 = 2 →
      wp_MM_overTwo (fun r18 σ17 =>
        bk_MM_overThree_77 Q v3 v5 v6 z0 r18 σ17) v1 v2 v6 σ6) ∧
     (¬ r7 = 2 →
      bk_MM_overThree_77 Q v3 v5 v6 z0 0 σ6))) v6 15 σ
def wp_MM_overThree (Q : Int → zS → Prop) (v1 : Int) (v2 : Int) (v3 : Int) (v4 : Int) (σ : zS) : Prop :=
  ∀ y1, y1 = zand v4 15 →
  ∀ y2, y2 = zshr v4 4 →
  ((y1 = y2 →
    wp_MM_overTwo (fun r22 σ21 =>
      Q r22 σ21) v1 v2 y1 σ) ∧
   (¬ y1 = y2 →
    wp_MM_flat (fun r4 σ3 =>
      zc r4 ∧ ((r4 = 2 →
        wp_MM_overTwo (fun r20 σ19 =>
          bk_MM_overThree_52 Q v1 v2 v3 y1 y2 r20 σ19) v1 v2 y1 σ3) ∧
       (¬ r4 = 2 →
        bk_MM_overThree_52 Q v1 v2 v3 y1 y2 0 σ3))) y1 15 σ))
set_option maxHeartbeats 4000000 in
set_option maxRecDepth 100000 in
theorem wk_MM_overThree_77 {E : zE} {D : va_G} {g : zG} {A : Nat → Prop} {ad : zA} {Q : Int → zS → Prop} (C : zX E b_MM_overThree R_MM D g { frames := 7, cells := 0, slots := 0, locals := 168 } 9) (R : zRt E (some .int) (zQi D g ad Q A) 0 0 A) (v3 : Int) (v5 : Int) (v6 : Int) (v7 : Int) (z0 : Int) (σ : zS) (h : bk_MM_overThree_77 Q v3 v5 v6 v7 z0 σ) : zW E (zOK D A (zst E) g ad) 0 0 77 [(0, .ref (ad (0, 3))), (3, .int (zi v3)), (5, .int (zi v5)), (6, .int (zi v6)), (7, .int (zi v7))] [.int (zi z0)] σ := by
  unfold bk_MM_overThree_77 at h
  refine z_istore (L' := [(8, .int (zi z0)), (0, .ref (ad (0, 3))), (3, .int (zi v3)), (5, .int (zi v5)), (6, .int (zi v6)), (7, .int (zi v7))]) C (pc := 77) d_MM_overThree_77 (by decide) rfl ?_
  refine z_aload_n C (pc := 79) d_MM_overThree_79 1 rfl ?_
  refine z_aload_n C (pc := 80) d_MM_overThree_80 1 rfl ?_
  refine m_getA C 2 (by decide) rfl wd_706 (pc := 81) d_MM_overThree_81 ?_
  refine z_iload_n C (pc := 84) d_MM_overThree_84 2 rfl ?_
  obtain ⟨hc9, hc10, h⟩ := h
  refine m_iald C 2 102 40 rfl rfl (by decide) hc9 hc10 (pc := 85) d_MM_overThree_85 ?_
  refine z_iload C (pc := 86) d_MM_overThree_86 3 rfl ?_
  refine z_bipush C (pc := 88) d_MM_overThree_88 (by decide) ?_
  refine z_callSi (As := [.int (zi v5), .int (zi 15)]) C fs_MM_flat rfl wd_915 (pc := 90) d_MM_overThree_90 ⟨rfl, rfl, Nat.le_of_ble_eq_true rfl, Nat.le_of_ble_eq_true rfl⟩ rfl rfl (Nat.le_of_ble_eq_true rfl) h (c_MM_flat (zln E) D g ad _ _ _ _) (fun r12 σ11 h => ?_)
  refine z_iload C (pc := 93) d_MM_overThree_93 5 rfl ?_
  refine z_iload C (pc := 95) d_MM_overThree_95 4 rfl ?_
  refine z_bipush C (pc := 97) d_MM_overThree_97 (by decide) ?_
  refine z_callSi (As := [.int (zi v6), .int (zi 15)]) C fs_MM_flat rfl wd_915 (pc := 99) d_MM_overThree_99 ⟨rfl, rfl, Nat.le_of_ble_eq_true rfl, Nat.le_of_ble_eq_true rfl⟩ rfl rfl (Nat.le_of_ble_eq_true rfl) h (c_MM_flat (zln E) D g ad _ _ _ _) (fun r14 σ13 h => ?_)
  refine z_iload C (pc := 102) d_MM_overThree_102 0 rfl ?_
  refine m_calli (As := [.int (zi (σ 102 v3)), .int (zi r12), .int (zi v7), .int (zi r14), .int (zi z0)]) C fy_MM_join rfl wd_899 (pc := 104) d_MM_overThree_104 ⟨rfl, rfl, Nat.le_of_ble_eq_true rfl, Nat.le_of_ble_eq_true rfl⟩ rfl rfl (Nat.le_of_ble_eq_true rfl) h (c_MM_join (zln E) D g ad _ _ _ _ _ _ _) (fun r16 σ15 h => ?_)
  exact z_iret C R (pc := 107) d_MM_overThree_107 h
set_option maxHeartbeats 4000000 in
set_option maxRecDepth 100000 in
theorem wk_MM_overThree_52 {E : zE} {D : va_G} {g : zG} {A : Nat → Prop} {ad : zA} {Q : Int → zS → Prop} (C : zX E b_MM_overThree R_MM D g { frames := 7, cells := 0, slots := 0, locals := 168 } 9) (R : zRt E (some .int) (zQi D g ad Q A) 0 0 A) (v1 : Int) (v2 : Int) (v3 : Int) (v5 : Int) (v6 : Int) (z0 : Int) (σ : zS) (h : bk_MM_overThree_52 Q v1 v2 v3 v5 v6 z0 σ) : zW E (zOK D A (zst E) g ad) 0 0 52 [(0, .ref (ad (0, 3))), (1, .int (zi v1)), (2, .int (zi v2)), (3, .int (zi v3)), (5, .int (zi v5)), (6, .int (zi v6))] [.int (zi z0)] σ := by
  unfold bk_MM_overThree_52 at h
  refine z_istore (L' := [(7, .int (zi z0)), (0, .ref (ad (0, 3))), (1, .int (zi v1)), (2, .int (zi v2)), (3, .int (zi v3)), (5, .int (zi v5)), (6, .int (zi v6))]) C (pc := 52) d_MM_overThree_52 (by decide) rfl ?_
  refine z_iload C (pc := 54) d_MM_overThree_54 6 rfl ?_
  refine z_bipush C (pc := 56) d_MM_overThree_56 (by decide) ?_
  refine z_callSi (As := [.int (zi v6), .int (zi 15)]) C fs_MM_flat rfl wd_915 (pc := 58) d_MM_overThree_58 ⟨rfl, rfl, Nat.le_of_ble_eq_true rfl, Nat.le_of_ble_eq_true rfl⟩ rfl rfl (Nat.le_of_ble_eq_true rfl) h (c_MM_flat (zln E) D g ad _ _ _ _) (fun r7 σ6 h => ?_)
  refine z_iconst C (pc := 61) d_MM_overThree_61 ?_
  obtain ⟨hc8, h⟩ := h
  refine z_icmp_ne (tgt := 76) C (pc := 62) d_MM_overThree_62 (by decide) hc8 (by decide) h (fun h => ?_) (fun h => ?_)
  · refine z_iconst C (pc := 76) d_MM_overThree_76 ?_
    refine z_sub [1, 4, 5, 6, 0] rfl ?_
    exact wk_MM_overThree_77 C R _ _ _ _ _ _ h
  · refine z_aload_n C (pc := 65) d_MM_overThree_65 1 rfl ?_
    refine z_iload_n C (pc := 66) d_MM_overThree_66 2 rfl ?_
    refine z_iload_n C (pc := 67) d_MM_overThree_67 3 rfl ?_
    refine z_iload C (pc := 68) d_MM_overThree_68 6 rfl ?_
    refine m_calli (As := [.int (zi v1), .int (zi v2), .int (zi v6)]) C fy_MM_overTwo rfl wd_891 (pc := 70) d_MM_overThree_70 ⟨rfl, rfl, Nat.le_of_ble_eq_true rfl, Nat.le_of_ble_eq_true rfl⟩ rfl rfl (Nat.le_of_ble_eq_true rfl) h (c_MM_overTwo (zln E) D g ad _ _ _ _ _) (fun r18 σ17 h => ?_)
    refine z_goto (tgt := 77) C (pc := 73) d_MM_overThree_73 (by decide) ?_
    refine z_sub [1, 4, 5, 6, 0] rfl ?_
    exact wk_MM_overThree_77 C R _ _ _ _ _ _ h
set_option maxHeartbeats 4000000 in
set_option maxRecDepth 100000 in
theorem c_MM_overThree (l : Launch) (D : va_G) (g : zG) (ad : zA) (v1 : Int) (v2 : Int) (v3 : Int) (v4 : Int) (Q : Int → zS → Prop) (σ : zS) (h : wp_MM_overThree Q v1 v2 v3 v4 σ) : zMi l y_MM_overThree b_MM_overThree 9 (some .int) { frames := 7, cells := 0, slots := 0, locals := 168 } D g ad σ [.ref (ad (0, 3)), .int (zi v1), .int (zi v2), .int (zi v3), .int (zi v4)] Q := by
  unfold wp_MM_overThree at h
  refine zM_of (by decide) (Nat.le_of_ble_eq_true rfl) (fun E C R hl => ?_)
  have C : zX E b_MM_overThree R_MM D g { frames := 7, cells := 0, slots := 0, locals := 168 } 9 := C
  refine z_sub (L' := [(0, .ref (ad (0, 3))), (1, .int (zi v1)), (2, .int (zi v2)), (3, .int (zi v3)), (4, .int (zi v4))]) [0, 1, 2, 3, 4] rfl ?_
  refine z_iload C (pc := 0) d_MM_overThree_0 4 rfl ?_
  refine z_bipush C (pc := 2) d_MM_overThree_2 (by decide) ?_
  refine z_iand C (pc := 4) d_MM_overThree_4 ?_
  refine zNi h (fun y1 ey1 h => ?_)
  refine z_istore (L' := [(5, .int (zi y1)), (0, .ref (ad (0, 3))), (1, .int (zi v1)), (2, .int (zi v2)), (3, .int (zi v3)), (4, .int (zi v4))]) C (pc := 5) d_MM_overThree_5 (by decide) rfl ?_
  refine z_iload C (pc := 7) d_MM_overThree_7 5 rfl ?_
  refine z_iconst C (pc := 9) d_MM_overThree_9 ?_
  refine z_ishr C (pc := 10) d_MM_overThree_10 ?_
  refine zNi h (fun y2 ey2 h => ?_)
  refine z_istore (L' := [(6, .int (zi y2)), (5, .int (zi y1)), (0, .ref (ad (0, 3))), (1, .int (zi v1)), (2, .int (zi v2)), (3, .int (zi v3)), (4, .int (zi v4))]) C (pc := 11) d_MM_overThree_11 (by decide) rfl ?_
  refine z_iload C (pc := 13) d_MM_overThree_13 1 rfl ?_
  refine z_iload C (pc := 15) d_MM_overThree_15 0 rfl ?_
  refine z_icmp_ne (tgt := 29) C (pc := 17) d_MM_overThree_17 (by decide) (ey1 ▸ zc_and _ _) (ey2 ▸ zc_shr _ _) h (fun h => ?_) (fun h => ?_)
  · refine z_iload C (pc := 29) d_MM_overThree_29 1 rfl ?_
    refine z_bipush C (pc := 31) d_MM_overThree_31 (by decide) ?_
    refine z_callSi (As := [.int (zi y1), .int (zi 15)]) C fs_MM_flat rfl wd_915 (pc := 33) d_MM_overThree_33 ⟨rfl, rfl, Nat.le_of_ble_eq_true rfl, Nat.le_of_ble_eq_true rfl⟩ rfl rfl (Nat.le_of_ble_eq_true rfl) h (c_MM_flat (zln E) D g ad _ _ _ _) (fun r4 σ3 h => ?_)
    refine z_iconst C (pc := 36) d_MM_overThree_36 ?_
    obtain ⟨hc5, h⟩ := h
    refine z_icmp_ne (tgt := 51) C (pc := 37) d_MM_overThree_37 (by decide) hc5 (by decide) h (fun h => ?_) (fun h => ?_)
    · refine z_iconst C (pc := 51) d_MM_overThree_51 ?_
      refine z_sub [2, 3, 4, 5, 1, 0] rfl ?_
      exact wk_MM_overThree_52 C R _ _ _ _ _ _ _ h
    · refine z_aload_n C (pc := 40) d_MM_overThree_40 2 rfl ?_
      refine z_iload_n C (pc := 41) d_MM_overThree_41 3 rfl ?_
      refine z_iload_n C (pc := 42) d_MM_overThree_42 4 rfl ?_
      refine z_iload C (pc := 43) d_MM_overThree_43 1 rfl ?_
      refine m_calli (As := [.int (zi v1), .int (zi v2), .int (zi y1)]) C fy_MM_overTwo rfl wd_891 (pc := 45) d_MM_overThree_45 ⟨rfl, rfl, Nat.le_of_ble_eq_true rfl, Nat.le_of_ble_eq_true rfl⟩ rfl rfl (Nat.le_of_ble_eq_true rfl) h (c_MM_overTwo (zln E) D g ad _ _ _ _ _) (fun r20 σ19 h => ?_)
      refine z_goto (tgt := 52) C (pc := 48) d_MM_overThree_48 (by decide) ?_
      refine z_sub [2, 3, 4, 5, 1, 0] rfl ?_
      exact wk_MM_overThree_52 C R _ _ _ _ _ _ _ h
  · refine z_aload_n C (pc := 20) d_MM_overThree_20 2 rfl ?_
    refine z_iload_n C (pc := 21) d_MM_overThree_21 3 rfl ?_
    refine z_iload_n C (pc := 22) d_MM_overThree_22 4 rfl ?_
    refine z_iload C (pc := 23) d_MM_overThree_23 1 rfl ?_
    refine m_calli (As := [.int (zi v1), .int (zi v2), .int (zi y1)]) C fy_MM_overTwo rfl wd_891 (pc := 25) d_MM_overThree_25 ⟨rfl, rfl, Nat.le_of_ble_eq_true rfl, Nat.le_of_ble_eq_true rfl⟩ rfl rfl (Nat.le_of_ble_eq_true rfl) h (c_MM_overTwo (zln E) D g ad _ _ _ _ _) (fun r22 σ21 h => ?_)
    exact z_iret C R (pc := 28) d_MM_overThree_28 h
theorem d_MM_isNet_0 : decode b_MM_isNet 0 = .ok (.iload_n 1, 1) := by decide +kernel
theorem d_MM_isNet_1 : decode b_MM_isNet 1 = .ok (.ifCond .lt 15, 3) := by decide +kernel
theorem d_MM_isNet_4 : decode b_MM_isNet 4 = .ok (.iload_n 1, 1) := by decide +kernel
theorem d_MM_isNet_5 : decode b_MM_isNet 5 = .ok (.aload_n 0, 1) := by decide +kernel
theorem d_MM_isNet_6 : decode b_MM_isNet 6 = .ok (.getfield 168, 3) := by decide +kernel
theorem d_MM_isNet_9 : decode b_MM_isNet 9 = .ok (.if_icmp .ge 7, 3) := by decide +kernel
theorem d_MM_isNet_12 : decode b_MM_isNet 12 = .ok (.iconst 1, 1) := by decide +kernel
theorem d_MM_isNet_13 : decode b_MM_isNet 13 = .ok (.goto 4, 3) := by decide +kernel
theorem d_MM_isNet_16 : decode b_MM_isNet 16 = .ok (.iconst 0, 1) := by decide +kernel
theorem d_MM_isNet_17 : decode b_MM_isNet 17 = .ok (.ireturn, 1) := by decide +kernel
def wp_MM_isNet (Q : Int → zS → Prop) (v1 : Int) (σ : zS) : Prop :=
  zc v1 ∧ ((v1 < 0 →
    Q 0 σ) ∧
   (¬ v1 < 0 →
    zc (σ 100 0) ∧ ((σ 100 0 ≤ v1 →
      Q 0 σ) ∧
     (¬ σ 100 0 ≤ v1 →
      Q 1 σ))))
set_option maxHeartbeats 4000000 in
set_option maxRecDepth 100000 in
theorem c_MM_isNet (l : Launch) (D : va_G) (g : zG) (ad : zA) (v1 : Int) (Q : Int → zS → Prop) (σ : zS) (h : wp_MM_isNet Q v1 σ) : zMi l y_MM_isNet b_MM_isNet 2 (some .boolean) { frames := 0, cells := 0, slots := 0, locals := 0 } D g ad σ [.ref (ad (0, 3)), .int (zi v1)] Q := by
  unfold wp_MM_isNet at h
  refine zM_of (by decide) (Nat.le_of_ble_eq_true rfl) (fun E C R hl => ?_)
  have C : zX E b_MM_isNet R_MM D g { frames := 0, cells := 0, slots := 0, locals := 0 } 2 := C
  refine z_sub (L' := [(0, .ref (ad (0, 3))), (1, .int (zi v1))]) [0, 1] rfl ?_
  refine z_iload_n C (pc := 0) d_MM_isNet_0 1 rfl ?_
  obtain ⟨hc1, h⟩ := h
  refine z_if_lt (tgt := 16) C (pc := 1) d_MM_isNet_1 (by decide) hc1 h (fun h => ?_) (fun h => ?_)
  · refine z_iconst C (pc := 16) d_MM_isNet_16 ?_
    exact z_zret C R (pc := 17) d_MM_isNet_17 (by decide) h
  · refine z_iload_n C (pc := 4) d_MM_isNet_4 1 rfl ?_
    refine z_aload_n C (pc := 5) d_MM_isNet_5 0 rfl ?_
    refine m_getI C 0 100 rfl (by decide) rfl wd_704 (pc := 6) d_MM_isNet_6 ?_
    obtain ⟨hc2, h⟩ := h
    refine z_icmp_ge (tgt := 16) C (pc := 9) d_MM_isNet_9 (by decide) hc1 hc2 h (fun h => ?_) (fun h => ?_)
    · refine z_iconst C (pc := 16) d_MM_isNet_16 ?_
      exact z_zret C R (pc := 17) d_MM_isNet_17 (by decide) h
    · refine z_iconst C (pc := 12) d_MM_isNet_12 ?_
      refine z_goto (tgt := 17) C (pc := 13) d_MM_isNet_13 (by decide) ?_
      exact z_zret C R (pc := 17) d_MM_isNet_17 (by decide) h
theorem d_MM_changed_0 : decode b_MM_changed 0 = .ok (.aload_n 0, 1) := by decide +kernel
theorem d_MM_changed_1 : decode b_MM_changed 1 = .ok (.iconst 0, 1) := by decide +kernel
theorem d_MM_changed_2 : decode b_MM_changed 2 = .ok (.putfield 171, 3) := by decide +kernel
theorem d_MM_changed_5 : decode b_MM_changed 5 = .ok (.iconst 0, 1) := by decide +kernel
theorem d_MM_changed_6 : decode b_MM_changed 6 = .ok (.istore_n 1, 1) := by decide +kernel
theorem d_MM_changed_7 : decode b_MM_changed 7 = .ok (.iload_n 1, 1) := by decide +kernel
theorem d_MM_changed_8 : decode b_MM_changed 8 = .ok (.aload_n 0, 1) := by decide +kernel
theorem d_MM_changed_9 : decode b_MM_changed 9 = .ok (.getfield 168, 3) := by decide +kernel
theorem d_MM_changed_12 : decode b_MM_changed 12 = .ok (.if_icmp .ge 21, 3) := by decide +kernel
theorem d_MM_changed_15 : decode b_MM_changed 15 = .ok (.aload_n 0, 1) := by decide +kernel
theorem d_MM_changed_16 : decode b_MM_changed 16 = .ok (.getfield 19, 3) := by decide +kernel
theorem d_MM_changed_19 : decode b_MM_changed 19 = .ok (.iload_n 1, 1) := by decide +kernel
theorem d_MM_changed_20 : decode b_MM_changed 20 = .ok (.aload_n 0, 1) := by decide +kernel
theorem d_MM_changed_21 : decode b_MM_changed 21 = .ok (.getfield 16, 3) := by decide +kernel
theorem d_MM_changed_24 : decode b_MM_changed 24 = .ok (.iload_n 1, 1) := by decide +kernel
theorem d_MM_changed_25 : decode b_MM_changed 25 = .ok (.iaload, 1) := by decide +kernel
theorem d_MM_changed_26 : decode b_MM_changed 26 = .ok (.iastore, 1) := by decide +kernel
theorem d_MM_changed_27 : decode b_MM_changed 27 = .ok (.iinc 1 1, 3) := by decide +kernel
theorem d_MM_changed_30 : decode b_MM_changed 30 = .ok (.goto (-23), 3) := by decide +kernel
theorem d_MM_changed_33 : decode b_MM_changed 33 = .ok (.return_, 1) := by decide +kernel
def lp_MM_changed_7 (Q : zS → Prop) : Nat → Int → zS → Prop
  | 0 => fun _ _ => False
  | n + 1 => fun v1 σ =>
    zc v1 ∧ zc (σ 100 0) ∧ ((σ 100 0 ≤ v1 →
      Q σ) ∧
     (¬ σ 100 0 ≤ v1 →
      0 ≤ v1 ∧ v1 < 40 ∧ 
      ∀ σ8, σ8 = zup σ 104 v1 (σ 103 v1) →
      lp_MM_changed_7 Q n (v1 + 1) σ8))
def wp_MM_changed (Q : zS → Prop) (σ : zS) : Prop :=
  ∀ σ1, σ1 = zup σ 124 0 0 →
  ∃ u7, lp_MM_changed_7 Q u7 0 σ1
set_option maxHeartbeats 4000000 in
set_option maxRecDepth 100000 in
theorem wk_MM_changed_7 {E : zE} {D : va_G} {g : zG} {A : Nat → Prop} {ad : zA} {Q : zS → Prop} (C : zX E b_MM_changed R_MM D g { frames := 0, cells := 0, slots := 0, locals := 0 } 2) (R : zRt E none (zQv D g ad Q A) 0 0 A) : ∀ (n : Nat) (v1 : Int) (σ : zS), lp_MM_changed_7 Q n v1 σ → zW E (zOK D A (zst E) g ad) 0 0 7 [(0, .ref (ad (0, 3))), (1, .int (zi v1))] [] σ := by
  intro n
  induction n with
  | zero =>
    intro v1 σ h
    exact h.elim
  | succ n ih =>
    intro v1 σ h
    refine z_iload_n C (pc := 7) d_MM_changed_7 1 rfl ?_
    refine z_aload_n C (pc := 8) d_MM_changed_8 0 rfl ?_
    refine m_getI C 0 100 rfl (by decide) rfl wd_704 (pc := 9) d_MM_changed_9 ?_
    obtain ⟨hc2, hc3, h⟩ := h
    refine z_icmp_ge (tgt := 33) C (pc := 12) d_MM_changed_12 (by decide) hc2 hc3 h (fun h => ?_) (fun h => ?_)
    · exact z_vret C R (pc := 33) d_MM_changed_33 h
    · refine z_aload_n C (pc := 15) d_MM_changed_15 0 rfl ?_
      refine m_getA C 4 (by decide) rfl wd_708 (pc := 16) d_MM_changed_16 ?_
      refine z_iload_n C (pc := 19) d_MM_changed_19 1 rfl ?_
      refine z_aload_n C (pc := 20) d_MM_changed_20 0 rfl ?_
      refine m_getA C 3 (by decide) rfl wd_707 (pc := 21) d_MM_changed_21 ?_
      refine z_iload_n C (pc := 24) d_MM_changed_24 1 rfl ?_
      obtain ⟨hc4, hc5, h⟩ := h
      refine m_iald C 3 103 40 rfl rfl (by decide) hc4 hc5 (pc := 25) d_MM_changed_25 ?_
      refine m_iast C 4 104 40 rfl rfl (by decide) hc4 hc5 (pc := 26) d_MM_changed_26 ?_
      refine zN h (fun σ8 eσ8 h => ?_)
      refine z_iinc (L' := [(1, .int (zi (v1 + 1))), (0, .ref (ad (0, 3)))]) C (pc := 27) d_MM_changed_27 1 rfl (by decide) rfl ?_
      refine z_goto (tgt := 7) C (pc := 30) d_MM_changed_30 (by decide) ?_
      refine z_sub [1, 0] rfl ?_
      exact ih _ _ h
set_option maxHeartbeats 4000000 in
set_option maxRecDepth 100000 in
theorem c_MM_changed (l : Launch) (D : va_G) (g : zG) (ad : zA) (Q : zS → Prop) (σ : zS) (h : wp_MM_changed Q σ) : zMv l y_MM_changed b_MM_changed 2 none { frames := 0, cells := 0, slots := 0, locals := 0 } D g ad σ [.ref (ad (0, 3))] Q := by
  unfold wp_MM_changed at h
  refine zM_of (by decide) (Nat.le_of_ble_eq_true rfl) (fun E C R hl => ?_)
  have C : zX E b_MM_changed R_MM D g { frames := 0, cells := 0, slots := 0, locals := 0 } 2 := C
  refine z_sub (L' := [(0, .ref (ad (0, 3)))]) [0] rfl ?_
  refine z_aload_n C (pc := 0) d_MM_changed_0 0 rfl ?_
  refine z_iconst C (pc := 1) d_MM_changed_1 ?_
  refine m_putI C 24 124 rfl (by decide) rfl wd_728 (z_bool rfl (by decide)) (pc := 2) d_MM_changed_2 ?_
  refine zN h (fun σ1 eσ1 h => ?_)
  refine z_iconst C (pc := 5) d_MM_changed_5 ?_
  refine z_istore_n (L' := [(1, .int (zi 0)), (0, .ref (ad (0, 3)))]) C (pc := 6) d_MM_changed_6 (by decide) rfl ?_
  refine z_sub [1, 0] rfl ?_
  obtain ⟨n9, h⟩ := h
  exact wk_MM_changed_7 C R n9 _ _ h
theorem d_MM_newNet_0 : decode b_MM_newNet 0 = .ok (.aload_n 0, 1) := by decide +kernel
theorem d_MM_newNet_1 : decode b_MM_newNet 1 = .ok (.getfield 7, 3) := by decide +kernel
theorem d_MM_newNet_4 : decode b_MM_newNet 4 = .ok (.aload_n 0, 1) := by decide +kernel
theorem d_MM_newNet_5 : decode b_MM_newNet 5 = .ok (.getfield 168, 3) := by decide +kernel
theorem d_MM_newNet_8 : decode b_MM_newNet 8 = .ok (.iload_n 1, 1) := by decide +kernel
theorem d_MM_newNet_9 : decode b_MM_newNet 9 = .ok (.iastore, 1) := by decide +kernel
theorem d_MM_newNet_10 : decode b_MM_newNet 10 = .ok (.aload_n 0, 1) := by decide +kernel
theorem d_MM_newNet_11 : decode b_MM_newNet 11 = .ok (.getfield 13, 3) := by decide +kernel
theorem d_MM_newNet_14 : decode b_MM_newNet 14 = .ok (.aload_n 0, 1) := by decide +kernel
theorem d_MM_newNet_15 : decode b_MM_newNet 15 = .ok (.getfield 168, 3) := by decide +kernel
theorem d_MM_newNet_18 : decode b_MM_newNet 18 = .ok (.iload_n 2, 1) := by decide +kernel
theorem d_MM_newNet_19 : decode b_MM_newNet 19 = .ok (.iastore, 1) := by decide +kernel
theorem d_MM_newNet_20 : decode b_MM_newNet 20 = .ok (.aload_n 0, 1) := by decide +kernel
theorem d_MM_newNet_21 : decode b_MM_newNet 21 = .ok (.getfield 16, 3) := by decide +kernel
theorem d_MM_newNet_24 : decode b_MM_newNet 24 = .ok (.aload_n 0, 1) := by decide +kernel
theorem d_MM_newNet_25 : decode b_MM_newNet 25 = .ok (.getfield 168, 3) := by decide +kernel
theorem d_MM_newNet_28 : decode b_MM_newNet 28 = .ok (.iload_n 3, 1) := by decide +kernel
theorem d_MM_newNet_29 : decode b_MM_newNet 29 = .ok (.iastore, 1) := by decide +kernel
theorem d_MM_newNet_30 : decode b_MM_newNet 30 = .ok (.aload_n 0, 1) := by decide +kernel
theorem d_MM_newNet_31 : decode b_MM_newNet 31 = .ok (.getfield 22, 3) := by decide +kernel
theorem d_MM_newNet_34 : decode b_MM_newNet 34 = .ok (.aload_n 0, 1) := by decide +kernel
theorem d_MM_newNet_35 : decode b_MM_newNet 35 = .ok (.getfield 168, 3) := by decide +kernel
theorem d_MM_newNet_38 : decode b_MM_newNet 38 = .ok (.iconst (-1), 1) := by decide +kernel
theorem d_MM_newNet_39 : decode b_MM_newNet 39 = .ok (.iastore, 1) := by decide +kernel
theorem d_MM_newNet_40 : decode b_MM_newNet 40 = .ok (.aload_n 0, 1) := by decide +kernel
theorem d_MM_newNet_41 : decode b_MM_newNet 41 = .ok (.dup, 1) := by decide +kernel
theorem d_MM_newNet_42 : decode b_MM_newNet 42 = .ok (.getfield 168, 3) := by decide +kernel
theorem d_MM_newNet_45 : decode b_MM_newNet 45 = .ok (.iconst 1, 1) := by decide +kernel
theorem d_MM_newNet_46 : decode b_MM_newNet 46 = .ok (.iadd, 1) := by decide +kernel
theorem d_MM_newNet_47 : decode b_MM_newNet 47 = .ok (.putfield 168, 3) := by decide +kernel
theorem d_MM_newNet_50 : decode b_MM_newNet 50 = .ok (.aload_n 0, 1) := by decide +kernel
theorem d_MM_newNet_51 : decode b_MM_newNet 51 = .ok (.invokevirtual 175, 3) := by decide +kernel
theorem d_MM_newNet_54 : decode b_MM_newNet 54 = .ok (.aload_n 0, 1) := by decide +kernel
theorem d_MM_newNet_55 : decode b_MM_newNet 55 = .ok (.getfield 168, 3) := by decide +kernel
theorem d_MM_newNet_58 : decode b_MM_newNet 58 = .ok (.iconst 1, 1) := by decide +kernel
theorem d_MM_newNet_59 : decode b_MM_newNet 59 = .ok (.isub, 1) := by decide +kernel
theorem d_MM_newNet_60 : decode b_MM_newNet 60 = .ok (.ireturn, 1) := by decide +kernel
def wp_MM_newNet (Q : Int → zS → Prop) (v1 : Int) (v2 : Int) (v3 : Int) (σ : zS) : Prop :=
  0 ≤ σ 100 0 ∧ σ 100 0 < 40 ∧ ∀ σ3, σ3 = zup σ 101 (σ 100 0) v1 →
  0 ≤ σ3 100 0 ∧ σ3 100 0 < 40 ∧ ∀ σ6, σ6 = zup σ3 102 (σ3 100 0) v2 →
  0 ≤ σ6 100 0 ∧ σ6 100 0 < 40 ∧ ∀ σ9, σ9 = zup σ6 103 (σ6 100 0) v3 →
  0 ≤ σ9 100 0 ∧ σ9 100 0 < 40 ∧ ∀ σ12, σ12 = zup σ9 105 (σ9 100 0) (-1) →
  ∀ σ13, σ13 = zup σ12 100 0 ((σ12 100 0) + 1) →
  wp_MM_changed (fun σ14 =>
    Q ((σ14 100 0) - 1) σ14) σ13
set_option maxHeartbeats 4000000 in
set_option maxRecDepth 100000 in
theorem c_MM_newNet (l : Launch) (D : va_G) (g : zG) (ad : zA) (v1 : Int) (v2 : Int) (v3 : Int) (Q : Int → zS → Prop) (σ : zS) (h : wp_MM_newNet Q v1 v2 v3 σ) : zMi l y_MM_newNet b_MM_newNet 4 (some .int) { frames := 1, cells := 0, slots := 0, locals := 21 } D g ad σ [.ref (ad (0, 3)), .int (zi v1), .int (zi v2), .int (zi v3)] Q := by
  unfold wp_MM_newNet at h
  refine zM_of (by decide) (Nat.le_of_ble_eq_true rfl) (fun E C R hl => ?_)
  have C : zX E b_MM_newNet R_MM D g { frames := 1, cells := 0, slots := 0, locals := 21 } 4 := C
  refine z_sub (L' := [(0, .ref (ad (0, 3))), (1, .int (zi v1)), (2, .int (zi v2)), (3, .int (zi v3))]) [0, 1, 2, 3] rfl ?_
  refine z_aload_n C (pc := 0) d_MM_newNet_0 0 rfl ?_
  refine m_getA C 1 (by decide) rfl wd_705 (pc := 1) d_MM_newNet_1 ?_
  refine z_aload_n C (pc := 4) d_MM_newNet_4 0 rfl ?_
  refine m_getI C 0 100 rfl (by decide) rfl wd_704 (pc := 5) d_MM_newNet_5 ?_
  refine z_iload_n C (pc := 8) d_MM_newNet_8 1 rfl ?_
  obtain ⟨hc1, hc2, h⟩ := h
  refine m_iast C 1 101 40 rfl rfl (by decide) hc1 hc2 (pc := 9) d_MM_newNet_9 ?_
  refine zN h (fun σ3 eσ3 h => ?_)
  refine z_aload_n C (pc := 10) d_MM_newNet_10 0 rfl ?_
  refine m_getA C 2 (by decide) rfl wd_706 (pc := 11) d_MM_newNet_11 ?_
  refine z_aload_n C (pc := 14) d_MM_newNet_14 0 rfl ?_
  refine m_getI C 0 100 rfl (by decide) rfl wd_704 (pc := 15) d_MM_newNet_15 ?_
  refine z_iload_n C (pc := 18) d_MM_newNet_18 2 rfl ?_
  obtain ⟨hc4, hc5, h⟩ := h
  refine m_iast C 2 102 40 rfl rfl (by decide) hc4 hc5 (pc := 19) d_MM_newNet_19 ?_
  refine zN h (fun σ6 eσ6 h => ?_)
  refine z_aload_n C (pc := 20) d_MM_newNet_20 0 rfl ?_
  refine m_getA C 3 (by decide) rfl wd_707 (pc := 21) d_MM_newNet_21 ?_
  refine z_aload_n C (pc := 24) d_MM_newNet_24 0 rfl ?_
  refine m_getI C 0 100 rfl (by decide) rfl wd_704 (pc := 25) d_MM_newNet_25 ?_
  refine z_iload_n C (pc := 28) d_MM_newNet_28 3 rfl ?_
  obtain ⟨hc7, hc8, h⟩ := h
  refine m_iast C 3 103 40 rfl rfl (by decide) hc7 hc8 (pc := 29) d_MM_newNet_29 ?_
  refine zN h (fun σ9 eσ9 h => ?_)
  refine z_aload_n C (pc := 30) d_MM_newNet_30 0 rfl ?_
  refine m_getA C 5 (by decide) rfl wd_709 (pc := 31) d_MM_newNet_31 ?_
  refine z_aload_n C (pc := 34) d_MM_newNet_34 0 rfl ?_
  refine m_getI C 0 100 rfl (by decide) rfl wd_704 (pc := 35) d_MM_newNet_35 ?_
  refine z_iconst C (pc := 38) d_MM_newNet_38 ?_
  obtain ⟨hc10, hc11, h⟩ := h
  refine m_iast C 5 105 40 rfl rfl (by decide) hc10 hc11 (pc := 39) d_MM_newNet_39 ?_
  refine zN h (fun σ12 eσ12 h => ?_)
  refine z_aload_n C (pc := 40) d_MM_newNet_40 0 rfl ?_
  refine z_dup C (pc := 41) d_MM_newNet_41 rfl ?_
  refine m_getI C 0 100 rfl (by decide) rfl wd_704 (pc := 42) d_MM_newNet_42 ?_
  refine z_iconst C (pc := 45) d_MM_newNet_45 ?_
  refine z_iadd C (pc := 46) d_MM_newNet_46 ?_
  refine m_putI C 0 100 rfl (by decide) rfl wd_704 ⟨rfl, rfl⟩ (pc := 47) d_MM_newNet_47 ?_
  refine zN h (fun σ13 eσ13 h => ?_)
  refine z_aload_n C (pc := 50) d_MM_newNet_50 0 rfl ?_
  refine m_callv (As := []) C fy_MM_changed rfl wd_871 (pc := 51) d_MM_newNet_51 ⟨rfl, rfl, Nat.le_of_ble_eq_true rfl, Nat.le_of_ble_eq_true rfl⟩ rfl rfl (Nat.le_of_ble_eq_true rfl) h (c_MM_changed (zln E) D g ad _ _) (fun σ14 h => ?_)
  refine z_aload_n C (pc := 54) d_MM_newNet_54 0 rfl ?_
  refine m_getI C 0 100 rfl (by decide) rfl wd_704 (pc := 55) d_MM_newNet_55 ?_
  refine z_iconst C (pc := 58) d_MM_newNet_58 ?_
  refine z_isub C (pc := 59) d_MM_newNet_59 ?_
  exact z_iret C R (pc := 60) d_MM_newNet_60 h
theorem d_MM_input_0 : decode b_MM_input 0 = .ok (.aload_n 0, 1) := by decide +kernel
theorem d_MM_input_1 : decode b_MM_input 1 = .ok (.getfield 168, 3) := by decide +kernel
theorem d_MM_input_4 : decode b_MM_input 4 = .ok (.bipush 40, 2) := by decide +kernel
theorem d_MM_input_6 : decode b_MM_input 6 = .ok (.if_icmp .ge 21, 3) := by decide +kernel
theorem d_MM_input_9 : decode b_MM_input 9 = .ok (.aload_n 0, 1) := by decide +kernel
theorem d_MM_input_10 : decode b_MM_input 10 = .ok (.getfield 178, 3) := by decide +kernel
theorem d_MM_input_13 : decode b_MM_input 13 = .ok (.bipush 6, 2) := by decide +kernel
theorem d_MM_input_15 : decode b_MM_input 15 = .ok (.if_icmp .ge 12, 3) := by decide +kernel
theorem d_MM_input_18 : decode b_MM_input 18 = .ok (.aload_n 0, 1) := by decide +kernel
theorem d_MM_input_19 : decode b_MM_input 19 = .ok (.getfield 135, 3) := by decide +kernel
theorem d_MM_input_22 : decode b_MM_input 22 = .ok (.bipush 48, 2) := by decide +kernel
theorem d_MM_input_24 : decode b_MM_input 24 = .ok (.if_icmp .lt 6, 3) := by decide +kernel
theorem d_MM_input_27 : decode b_MM_input 27 = .ok (.bipush (-2), 2) := by decide +kernel
theorem d_MM_input_29 : decode b_MM_input 29 = .ok (.ireturn, 1) := by decide +kernel
theorem d_MM_input_30 : decode b_MM_input 30 = .ok (.aload_n 0, 1) := by decide +kernel
theorem d_MM_input_31 : decode b_MM_input 31 = .ok (.dup, 1) := by decide +kernel
theorem d_MM_input_32 : decode b_MM_input 32 = .ok (.getfield 178, 3) := by decide +kernel
theorem d_MM_input_35 : decode b_MM_input 35 = .ok (.iconst 1, 1) := by decide +kernel
theorem d_MM_input_36 : decode b_MM_input 36 = .ok (.iadd, 1) := by decide +kernel
theorem d_MM_input_37 : decode b_MM_input 37 = .ok (.putfield 178, 3) := by decide +kernel
theorem d_MM_input_40 : decode b_MM_input 40 = .ok (.aload_n 0, 1) := by decide +kernel
theorem d_MM_input_41 : decode b_MM_input 41 = .ok (.iconst 0, 1) := by decide +kernel
theorem d_MM_input_42 : decode b_MM_input 42 = .ok (.iconst (-1), 1) := by decide +kernel
theorem d_MM_input_43 : decode b_MM_input 43 = .ok (.iconst (-1), 1) := by decide +kernel
theorem d_MM_input_44 : decode b_MM_input 44 = .ok (.aload_n 0, 1) := by decide +kernel
theorem d_MM_input_45 : decode b_MM_input 45 = .ok (.getfield 168, 3) := by decide +kernel
theorem d_MM_input_48 : decode b_MM_input 48 = .ok (.invokevirtual 139, 3) := by decide +kernel
theorem d_MM_input_51 : decode b_MM_input 51 = .ok (.istore_n 1, 1) := by decide +kernel
theorem d_MM_input_52 : decode b_MM_input 52 = .ok (.aload_n 0, 1) := by decide +kernel
theorem d_MM_input_53 : decode b_MM_input 53 = .ok (.iconst 0, 1) := by decide +kernel
theorem d_MM_input_54 : decode b_MM_input 54 = .ok (.iload_n 1, 1) := by decide +kernel
theorem d_MM_input_55 : decode b_MM_input 55 = .ok (.iconst 0, 1) := by decide +kernel
theorem d_MM_input_56 : decode b_MM_input 56 = .ok (.invokevirtual 181, 3) := by decide +kernel
theorem d_MM_input_59 : decode b_MM_input 59 = .ok (.ireturn, 1) := by decide +kernel
def wp_MM_input (Q : Int → zS → Prop) (σ : zS) : Prop :=
  zc (σ 100 0) ∧ ((40 ≤ σ 100 0 →
    Q (-2) σ) ∧
   (¬ 40 ≤ σ 100 0 →
    zc (σ 111 0) ∧ ((6 ≤ σ 111 0 →
      Q (-2) σ) ∧
     (¬ 6 ≤ σ 111 0 →
      zc (σ 113 0) ∧ ((σ 113 0 < 48 →
        ∀ σ4, σ4 = zup σ 111 0 ((σ 111 0) + 1) →
        wp_MM_newNode (fun r6 σ5 =>
          wp_MM_newNet (fun r8 σ7 =>
            Q r8 σ7) 0 r6 0 σ5) 0 (-1) (-1) (σ4 100 0) σ4) ∧
       (¬ σ 113 0 < 48 →
        Q (-2) σ))))))
set_option maxHeartbeats 4000000 in
set_option maxRecDepth 100000 in
theorem c_MM_input (l : Launch) (D : va_G) (g : zG) (ad : zA) (Q : Int → zS → Prop) (σ : zS) (h : wp_MM_input Q σ) : zMi l y_MM_input b_MM_input 2 (some .int) { frames := 2, cells := 0, slots := 0, locals := 44 } D g ad σ [.ref (ad (0, 3))] Q := by
  unfold wp_MM_input at h
  refine zM_of (by decide) (Nat.le_of_ble_eq_true rfl) (fun E C R hl => ?_)
  have C : zX E b_MM_input R_MM D g { frames := 2, cells := 0, slots := 0, locals := 44 } 2 := C
  refine z_sub (L' := [(0, .ref (ad (0, 3)))]) [0] rfl ?_
  refine z_aload_n C (pc := 0) d_MM_input_0 0 rfl ?_
  refine m_getI C 0 100 rfl (by decide) rfl wd_704 (pc := 1) d_MM_input_1 ?_
  refine z_bipush C (pc := 4) d_MM_input_4 (by decide) ?_
  obtain ⟨hc1, h⟩ := h
  refine z_icmp_ge (tgt := 27) C (pc := 6) d_MM_input_6 (by decide) hc1 (by decide) h (fun h => ?_) (fun h => ?_)
  · refine z_bipush C (pc := 27) d_MM_input_27 (by decide) ?_
    exact z_iret C R (pc := 29) d_MM_input_29 h
  · refine z_aload_n C (pc := 9) d_MM_input_9 0 rfl ?_
    refine m_getI C 11 111 rfl (by decide) rfl wd_715 (pc := 10) d_MM_input_10 ?_
    refine z_bipush C (pc := 13) d_MM_input_13 (by decide) ?_
    obtain ⟨hc2, h⟩ := h
    refine z_icmp_ge (tgt := 27) C (pc := 15) d_MM_input_15 (by decide) hc2 (by decide) h (fun h => ?_) (fun h => ?_)
    · refine z_bipush C (pc := 27) d_MM_input_27 (by decide) ?_
      exact z_iret C R (pc := 29) d_MM_input_29 h
    · refine z_aload_n C (pc := 18) d_MM_input_18 0 rfl ?_
      refine m_getI C 13 113 rfl (by decide) rfl wd_717 (pc := 19) d_MM_input_19 ?_
      refine z_bipush C (pc := 22) d_MM_input_22 (by decide) ?_
      obtain ⟨hc3, h⟩ := h
      refine z_icmp_lt (tgt := 30) C (pc := 24) d_MM_input_24 (by decide) hc3 (by decide) h (fun h => ?_) (fun h => ?_)
      · refine z_aload_n C (pc := 30) d_MM_input_30 0 rfl ?_
        refine z_dup C (pc := 31) d_MM_input_31 rfl ?_
        refine m_getI C 11 111 rfl (by decide) rfl wd_715 (pc := 32) d_MM_input_32 ?_
        refine z_iconst C (pc := 35) d_MM_input_35 ?_
        refine z_iadd C (pc := 36) d_MM_input_36 ?_
        refine m_putI C 11 111 rfl (by decide) rfl wd_715 ⟨rfl, rfl⟩ (pc := 37) d_MM_input_37 ?_
        refine zN h (fun σ4 eσ4 h => ?_)
        refine z_aload_n C (pc := 40) d_MM_input_40 0 rfl ?_
        refine z_iconst C (pc := 41) d_MM_input_41 ?_
        refine z_iconst C (pc := 42) d_MM_input_42 ?_
        refine z_iconst C (pc := 43) d_MM_input_43 ?_
        refine z_aload_n C (pc := 44) d_MM_input_44 0 rfl ?_
        refine m_getI C 0 100 rfl (by decide) rfl wd_704 (pc := 45) d_MM_input_45 ?_
        refine m_calli (As := [.int (zi 0), .int (zi (-1)), .int (zi (-1)), .int (zi (σ4 100 0))]) C fy_MM_newNode rfl wd_863 (pc := 48) d_MM_input_48 ⟨rfl, rfl, Nat.le_of_ble_eq_true rfl, Nat.le_of_ble_eq_true rfl⟩ rfl rfl (Nat.le_of_ble_eq_true rfl) h (c_MM_newNode (zln E) D g ad _ _ _ _ _ _) (fun r6 σ5 h => ?_)
        refine z_istore_n (L' := [(1, .int (zi r6)), (0, .ref (ad (0, 3)))]) C (pc := 51) d_MM_input_51 (by decide) rfl ?_
        refine z_aload_n C (pc := 52) d_MM_input_52 1 rfl ?_
        refine z_iconst C (pc := 53) d_MM_input_53 ?_
        refine z_iload_n C (pc := 54) d_MM_input_54 0 rfl ?_
        refine z_iconst C (pc := 55) d_MM_input_55 ?_
        refine m_calli (As := [.int (zi 0), .int (zi r6), .int (zi 0)]) C fy_MM_newNet rfl wd_867 (pc := 56) d_MM_input_56 ⟨rfl, rfl, Nat.le_of_ble_eq_true rfl, Nat.le_of_ble_eq_true rfl⟩ rfl rfl (Nat.le_of_ble_eq_true rfl) h (c_MM_newNet (zln E) D g ad _ _ _ _ _) (fun r8 σ7 h => ?_)
        exact z_iret C R (pc := 59) d_MM_input_59 h
      · refine z_bipush C (pc := 27) d_MM_input_27 (by decide) ?_
        exact z_iret C R (pc := 29) d_MM_input_29 h
theorem d_MM_latch_0 : decode b_MM_latch 0 = .ok (.iload_n 1, 1) := by decide +kernel
theorem d_MM_latch_1 : decode b_MM_latch 1 = .ok (.ifCond .lt 8, 3) := by decide +kernel
theorem d_MM_latch_4 : decode b_MM_latch 4 = .ok (.iload_n 1, 1) := by decide +kernel
theorem d_MM_latch_5 : decode b_MM_latch 5 = .ok (.iconst 1, 1) := by decide +kernel
theorem d_MM_latch_6 : decode b_MM_latch 6 = .ok (.if_icmp .le 5, 3) := by decide +kernel
theorem d_MM_latch_9 : decode b_MM_latch 9 = .ok (.iconst (-1), 1) := by decide +kernel
theorem d_MM_latch_10 : decode b_MM_latch 10 = .ok (.ireturn, 1) := by decide +kernel
theorem d_MM_latch_11 : decode b_MM_latch 11 = .ok (.aload_n 0, 1) := by decide +kernel
theorem d_MM_latch_12 : decode b_MM_latch 12 = .ok (.getfield 168, 3) := by decide +kernel
theorem d_MM_latch_15 : decode b_MM_latch 15 = .ok (.bipush 40, 2) := by decide +kernel
theorem d_MM_latch_17 : decode b_MM_latch 17 = .ok (.if_icmp .ge 21, 3) := by decide +kernel
theorem d_MM_latch_20 : decode b_MM_latch 20 = .ok (.aload_n 0, 1) := by decide +kernel
theorem d_MM_latch_21 : decode b_MM_latch 21 = .ok (.getfield 184, 3) := by decide +kernel
theorem d_MM_latch_24 : decode b_MM_latch 24 = .ok (.bipush 6, 2) := by decide +kernel
theorem d_MM_latch_26 : decode b_MM_latch 26 = .ok (.if_icmp .ge 12, 3) := by decide +kernel
theorem d_MM_latch_29 : decode b_MM_latch 29 = .ok (.aload_n 0, 1) := by decide +kernel
theorem d_MM_latch_30 : decode b_MM_latch 30 = .ok (.getfield 135, 3) := by decide +kernel
theorem d_MM_latch_33 : decode b_MM_latch 33 = .ok (.bipush 48, 2) := by decide +kernel
theorem d_MM_latch_35 : decode b_MM_latch 35 = .ok (.if_icmp .lt 6, 3) := by decide +kernel
theorem d_MM_latch_38 : decode b_MM_latch 38 = .ok (.bipush (-2), 2) := by decide +kernel
theorem d_MM_latch_40 : decode b_MM_latch 40 = .ok (.ireturn, 1) := by decide +kernel
theorem d_MM_latch_41 : decode b_MM_latch 41 = .ok (.aload_n 0, 1) := by decide +kernel
theorem d_MM_latch_42 : decode b_MM_latch 42 = .ok (.dup, 1) := by decide +kernel
theorem d_MM_latch_43 : decode b_MM_latch 43 = .ok (.getfield 184, 3) := by decide +kernel
theorem d_MM_latch_46 : decode b_MM_latch 46 = .ok (.iconst 1, 1) := by decide +kernel
theorem d_MM_latch_47 : decode b_MM_latch 47 = .ok (.iadd, 1) := by decide +kernel
theorem d_MM_latch_48 : decode b_MM_latch 48 = .ok (.putfield 184, 3) := by decide +kernel
theorem d_MM_latch_51 : decode b_MM_latch 51 = .ok (.aload_n 0, 1) := by decide +kernel
theorem d_MM_latch_52 : decode b_MM_latch 52 = .ok (.iconst 1, 1) := by decide +kernel
theorem d_MM_latch_53 : decode b_MM_latch 53 = .ok (.iconst (-1), 1) := by decide +kernel
theorem d_MM_latch_54 : decode b_MM_latch 54 = .ok (.iconst (-1), 1) := by decide +kernel
theorem d_MM_latch_55 : decode b_MM_latch 55 = .ok (.aload_n 0, 1) := by decide +kernel
theorem d_MM_latch_56 : decode b_MM_latch 56 = .ok (.getfield 168, 3) := by decide +kernel
theorem d_MM_latch_59 : decode b_MM_latch 59 = .ok (.invokevirtual 139, 3) := by decide +kernel
theorem d_MM_latch_62 : decode b_MM_latch 62 = .ok (.istore_n 2, 1) := by decide +kernel
theorem d_MM_latch_63 : decode b_MM_latch 63 = .ok (.aload_n 0, 1) := by decide +kernel
theorem d_MM_latch_64 : decode b_MM_latch 64 = .ok (.iconst 1, 1) := by decide +kernel
theorem d_MM_latch_65 : decode b_MM_latch 65 = .ok (.iload_n 2, 1) := by decide +kernel
theorem d_MM_latch_66 : decode b_MM_latch 66 = .ok (.iload_n 1, 1) := by decide +kernel
theorem d_MM_latch_67 : decode b_MM_latch 67 = .ok (.invokevirtual 181, 3) := by decide +kernel
theorem d_MM_latch_70 : decode b_MM_latch 70 = .ok (.ireturn, 1) := by decide +kernel
def wp_MM_latch (Q : Int → zS → Prop) (v1 : Int) (σ : zS) : Prop :=
  zc v1 ∧ ((v1 < 0 →
    Q (-1) σ) ∧
   (¬ v1 < 0 →
    ((v1 ≤ 1 →
      zc (σ 100 0) ∧ ((40 ≤ σ 100 0 →
        Q (-2) σ) ∧
       (¬ 40 ≤ σ 100 0 →
        zc (σ 112 0) ∧ ((6 ≤ σ 112 0 →
          Q (-2) σ) ∧
         (¬ 6 ≤ σ 112 0 →
          zc (σ 113 0) ∧ ((σ 113 0 < 48 →
            ∀ σ5, σ5 = zup σ 112 0 ((σ 112 0) + 1) →
            wp_MM_newNode (fun r7 σ6 =>
              wp_MM_newNet (fun r9 σ8 =>
                Q r9 σ8) 1 r7 v1 σ6) 1 (-1) (-1) (σ5 100 0) σ5) ∧
           (¬ σ 113 0 < 48 →
            Q (-2) σ))))))) ∧
     (¬ v1 ≤ 1 →
      Q (-1) σ))))
set_option maxHeartbeats 4000000 in
set_option maxRecDepth 100000 in
theorem c_MM_latch (l : Launch) (D : va_G) (g : zG) (ad : zA) (v1 : Int) (Q : Int → zS → Prop) (σ : zS) (h : wp_MM_latch Q v1 σ) : zMi l y_MM_latch b_MM_latch 3 (some .int) { frames := 2, cells := 0, slots := 0, locals := 44 } D g ad σ [.ref (ad (0, 3)), .int (zi v1)] Q := by
  unfold wp_MM_latch at h
  refine zM_of (by decide) (Nat.le_of_ble_eq_true rfl) (fun E C R hl => ?_)
  have C : zX E b_MM_latch R_MM D g { frames := 2, cells := 0, slots := 0, locals := 44 } 3 := C
  refine z_sub (L' := [(0, .ref (ad (0, 3))), (1, .int (zi v1))]) [0, 1] rfl ?_
  refine z_iload_n C (pc := 0) d_MM_latch_0 1 rfl ?_
  obtain ⟨hc1, h⟩ := h
  refine z_if_lt (tgt := 9) C (pc := 1) d_MM_latch_1 (by decide) hc1 h (fun h => ?_) (fun h => ?_)
  · refine z_iconst C (pc := 9) d_MM_latch_9 ?_
    exact z_iret C R (pc := 10) d_MM_latch_10 h
  · refine z_iload_n C (pc := 4) d_MM_latch_4 1 rfl ?_
    refine z_iconst C (pc := 5) d_MM_latch_5 ?_
    refine z_icmp_le (tgt := 11) C (pc := 6) d_MM_latch_6 (by decide) hc1 (by decide) h (fun h => ?_) (fun h => ?_)
    · refine z_aload_n C (pc := 11) d_MM_latch_11 0 rfl ?_
      refine m_getI C 0 100 rfl (by decide) rfl wd_704 (pc := 12) d_MM_latch_12 ?_
      refine z_bipush C (pc := 15) d_MM_latch_15 (by decide) ?_
      obtain ⟨hc2, h⟩ := h
      refine z_icmp_ge (tgt := 38) C (pc := 17) d_MM_latch_17 (by decide) hc2 (by decide) h (fun h => ?_) (fun h => ?_)
      · refine z_bipush C (pc := 38) d_MM_latch_38 (by decide) ?_
        exact z_iret C R (pc := 40) d_MM_latch_40 h
      · refine z_aload_n C (pc := 20) d_MM_latch_20 0 rfl ?_
        refine m_getI C 12 112 rfl (by decide) rfl wd_716 (pc := 21) d_MM_latch_21 ?_
        refine z_bipush C (pc := 24) d_MM_latch_24 (by decide) ?_
        obtain ⟨hc3, h⟩ := h
        refine z_icmp_ge (tgt := 38) C (pc := 26) d_MM_latch_26 (by decide) hc3 (by decide) h (fun h => ?_) (fun h => ?_)
        · refine z_bipush C (pc := 38) d_MM_latch_38 (by decide) ?_
          exact z_iret C R (pc := 40) d_MM_latch_40 h
        · refine z_aload_n C (pc := 29) d_MM_latch_29 0 rfl ?_
          refine m_getI C 13 113 rfl (by decide) rfl wd_717 (pc := 30) d_MM_latch_30 ?_
          refine z_bipush C (pc := 33) d_MM_latch_33 (by decide) ?_
          obtain ⟨hc4, h⟩ := h
          refine z_icmp_lt (tgt := 41) C (pc := 35) d_MM_latch_35 (by decide) hc4 (by decide) h (fun h => ?_) (fun h => ?_)
          · refine z_aload_n C (pc := 41) d_MM_latch_41 0 rfl ?_
            refine z_dup C (pc := 42) d_MM_latch_42 rfl ?_
            refine m_getI C 12 112 rfl (by decide) rfl wd_716 (pc := 43) d_MM_latch_43 ?_
            refine z_iconst C (pc := 46) d_MM_latch_46 ?_
            refine z_iadd C (pc := 47) d_MM_latch_47 ?_
            refine m_putI C 12 112 rfl (by decide) rfl wd_716 ⟨rfl, rfl⟩ (pc := 48) d_MM_latch_48 ?_
            refine zN h (fun σ5 eσ5 h => ?_)
            refine z_aload_n C (pc := 51) d_MM_latch_51 0 rfl ?_
            refine z_iconst C (pc := 52) d_MM_latch_52 ?_
            refine z_iconst C (pc := 53) d_MM_latch_53 ?_
            refine z_iconst C (pc := 54) d_MM_latch_54 ?_
            refine z_aload_n C (pc := 55) d_MM_latch_55 0 rfl ?_
            refine m_getI C 0 100 rfl (by decide) rfl wd_704 (pc := 56) d_MM_latch_56 ?_
            refine m_calli (As := [.int (zi 1), .int (zi (-1)), .int (zi (-1)), .int (zi (σ5 100 0))]) C fy_MM_newNode rfl wd_863 (pc := 59) d_MM_latch_59 ⟨rfl, rfl, Nat.le_of_ble_eq_true rfl, Nat.le_of_ble_eq_true rfl⟩ rfl rfl (Nat.le_of_ble_eq_true rfl) h (c_MM_newNode (zln E) D g ad _ _ _ _ _ _) (fun r7 σ6 h => ?_)
            refine z_istore_n (L' := [(2, .int (zi r7)), (0, .ref (ad (0, 3))), (1, .int (zi v1))]) C (pc := 62) d_MM_latch_62 (by decide) rfl ?_
            refine z_aload_n C (pc := 63) d_MM_latch_63 1 rfl ?_
            refine z_iconst C (pc := 64) d_MM_latch_64 ?_
            refine z_iload_n C (pc := 65) d_MM_latch_65 0 rfl ?_
            refine z_iload_n C (pc := 66) d_MM_latch_66 2 rfl ?_
            refine m_calli (As := [.int (zi 1), .int (zi r7), .int (zi v1)]) C fy_MM_newNet rfl wd_867 (pc := 67) d_MM_latch_67 ⟨rfl, rfl, Nat.le_of_ble_eq_true rfl, Nat.le_of_ble_eq_true rfl⟩ rfl rfl (Nat.le_of_ble_eq_true rfl) h (c_MM_newNet (zln E) D g ad _ _ _ _ _) (fun r9 σ8 h => ?_)
            exact z_iret C R (pc := 70) d_MM_latch_70 h
          · refine z_bipush C (pc := 38) d_MM_latch_38 (by decide) ?_
            exact z_iret C R (pc := 40) d_MM_latch_40 h
    · refine z_iconst C (pc := 9) d_MM_latch_9 ?_
      exact z_iret C R (pc := 10) d_MM_latch_10 h
theorem d_MM_function_0 : decode b_MM_function 0 = .ok (.iload_n 3, 1) := by decide +kernel
theorem d_MM_function_1 : decode b_MM_function 1 = .ok (.ifCond .lt 9, 3) := by decide +kernel
theorem d_MM_function_4 : decode b_MM_function 4 = .ok (.sipush 255, 3) := by decide +kernel
theorem d_MM_function_7 : decode b_MM_function 7 = .ok (.goto 13, 3) := by decide +kernel
theorem d_MM_function_10 : decode b_MM_function 10 = .ok (.iload_n 2, 1) := by decide +kernel
theorem d_MM_function_11 : decode b_MM_function 11 = .ok (.ifCond .lt 8, 3) := by decide +kernel
theorem d_MM_function_14 : decode b_MM_function 14 = .ok (.bipush 15, 2) := by decide +kernel
theorem d_MM_function_16 : decode b_MM_function 16 = .ok (.goto 4, 3) := by decide +kernel
theorem d_MM_function_19 : decode b_MM_function 19 = .ok (.iconst 3, 1) := by decide +kernel
theorem d_MM_function_20 : decode b_MM_function 20 = .ok (.istore 5, 2) := by decide +kernel
theorem d_MM_function_22 : decode b_MM_function 22 = .ok (.aload_n 0, 1) := by decide +kernel
theorem d_MM_function_23 : decode b_MM_function 23 = .ok (.iload_n 1, 1) := by decide +kernel
theorem d_MM_function_24 : decode b_MM_function 24 = .ok (.invokevirtual 187, 3) := by decide +kernel
theorem d_MM_function_27 : decode b_MM_function 27 = .ok (.ifCond .eq 39, 3) := by decide +kernel
theorem d_MM_function_30 : decode b_MM_function 30 = .ok (.iload_n 2, 1) := by decide +kernel
theorem d_MM_function_31 : decode b_MM_function 31 = .ok (.iconst (-1), 1) := by decide +kernel
theorem d_MM_function_32 : decode b_MM_function 32 = .ok (.if_icmp .eq 11, 3) := by decide +kernel
theorem d_MM_function_35 : decode b_MM_function 35 = .ok (.aload_n 0, 1) := by decide +kernel
theorem d_MM_function_36 : decode b_MM_function 36 = .ok (.iload_n 2, 1) := by decide +kernel
theorem d_MM_function_37 : decode b_MM_function 37 = .ok (.invokevirtual 187, 3) := by decide +kernel
theorem d_MM_function_40 : decode b_MM_function 40 = .ok (.ifCond .eq 26, 3) := by decide +kernel
theorem d_MM_function_43 : decode b_MM_function 43 = .ok (.iload_n 3, 1) := by decide +kernel
theorem d_MM_function_44 : decode b_MM_function 44 = .ok (.iconst (-1), 1) := by decide +kernel
theorem d_MM_function_45 : decode b_MM_function 45 = .ok (.if_icmp .eq 11, 3) := by decide +kernel
theorem d_MM_function_48 : decode b_MM_function 48 = .ok (.aload_n 0, 1) := by decide +kernel
theorem d_MM_function_49 : decode b_MM_function 49 = .ok (.iload_n 3, 1) := by decide +kernel
theorem d_MM_function_50 : decode b_MM_function 50 = .ok (.invokevirtual 187, 3) := by decide +kernel
theorem d_MM_function_53 : decode b_MM_function 53 = .ok (.ifCond .eq 13, 3) := by decide +kernel
theorem d_MM_function_56 : decode b_MM_function 56 = .ok (.iload_n 2, 1) := by decide +kernel
theorem d_MM_function_57 : decode b_MM_function 57 = .ok (.iconst (-1), 1) := by decide +kernel
theorem d_MM_function_58 : decode b_MM_function 58 = .ok (.if_icmp .ne 10, 3) := by decide +kernel
theorem d_MM_function_61 : decode b_MM_function 61 = .ok (.iload_n 3, 1) := by decide +kernel
theorem d_MM_function_62 : decode b_MM_function 62 = .ok (.iconst (-1), 1) := by decide +kernel
theorem d_MM_function_63 : decode b_MM_function 63 = .ok (.if_icmp .eq 5, 3) := by decide +kernel
theorem d_MM_function_66 : decode b_MM_function 66 = .ok (.iconst (-1), 1) := by decide +kernel
theorem d_MM_function_67 : decode b_MM_function 67 = .ok (.ireturn, 1) := by decide +kernel
theorem d_MM_function_68 : decode b_MM_function 68 = .ok (.iload 4, 2) := by decide +kernel
theorem d_MM_function_70 : decode b_MM_function 70 = .ok (.ifCond .le 10, 3) := by decide +kernel
theorem d_MM_function_73 : decode b_MM_function 73 = .ok (.iload 4, 2) := by decide +kernel
theorem d_MM_function_75 : decode b_MM_function 75 = .ok (.iload 5, 2) := by decide +kernel
theorem d_MM_function_77 : decode b_MM_function 77 = .ok (.if_icmp .lt 5, 3) := by decide +kernel
theorem d_MM_function_80 : decode b_MM_function 80 = .ok (.iconst (-1), 1) := by decide +kernel
theorem d_MM_function_81 : decode b_MM_function 81 = .ok (.ireturn, 1) := by decide +kernel
theorem d_MM_function_82 : decode b_MM_function 82 = .ok (.aload_n 0, 1) := by decide +kernel
theorem d_MM_function_83 : decode b_MM_function 83 = .ok (.getfield 168, 3) := by decide +kernel
theorem d_MM_function_86 : decode b_MM_function 86 = .ok (.bipush 40, 2) := by decide +kernel
theorem d_MM_function_88 : decode b_MM_function 88 = .ok (.if_icmp .ge 12, 3) := by decide +kernel
theorem d_MM_function_91 : decode b_MM_function 91 = .ok (.aload_n 0, 1) := by decide +kernel
theorem d_MM_function_92 : decode b_MM_function 92 = .ok (.getfield 135, 3) := by decide +kernel
theorem d_MM_function_95 : decode b_MM_function 95 = .ok (.bipush 32, 2) := by decide +kernel
theorem d_MM_function_97 : decode b_MM_function 97 = .ok (.if_icmp .le 6, 3) := by decide +kernel
theorem d_MM_function_100 : decode b_MM_function 100 = .ok (.bipush (-2), 2) := by decide +kernel
theorem d_MM_function_102 : decode b_MM_function 102 = .ok (.ireturn, 1) := by decide +kernel
theorem d_MM_function_103 : decode b_MM_function 103 = .ok (.aload_n 0, 1) := by decide +kernel
theorem d_MM_function_104 : decode b_MM_function 104 = .ok (.getfield 25, 3) := by decide +kernel
theorem d_MM_function_107 : decode b_MM_function 107 = .ok (.aload_n 0, 1) := by decide +kernel
theorem d_MM_function_108 : decode b_MM_function 108 = .ok (.getfield 168, 3) := by decide +kernel
theorem d_MM_function_111 : decode b_MM_function 111 = .ok (.iload_n 1, 1) := by decide +kernel
theorem d_MM_function_112 : decode b_MM_function 112 = .ok (.iastore, 1) := by decide +kernel
theorem d_MM_function_113 : decode b_MM_function 113 = .ok (.aload_n 0, 1) := by decide +kernel
theorem d_MM_function_114 : decode b_MM_function 114 = .ok (.getfield 28, 3) := by decide +kernel
theorem d_MM_function_117 : decode b_MM_function 117 = .ok (.aload_n 0, 1) := by decide +kernel
theorem d_MM_function_118 : decode b_MM_function 118 = .ok (.getfield 168, 3) := by decide +kernel
theorem d_MM_function_121 : decode b_MM_function 121 = .ok (.iload_n 2, 1) := by decide +kernel
theorem d_MM_function_122 : decode b_MM_function 122 = .ok (.iastore, 1) := by decide +kernel
theorem d_MM_function_123 : decode b_MM_function 123 = .ok (.aload_n 0, 1) := by decide +kernel
theorem d_MM_function_124 : decode b_MM_function 124 = .ok (.getfield 31, 3) := by decide +kernel
theorem d_MM_function_127 : decode b_MM_function 127 = .ok (.aload_n 0, 1) := by decide +kernel
theorem d_MM_function_128 : decode b_MM_function 128 = .ok (.getfield 168, 3) := by decide +kernel
theorem d_MM_function_131 : decode b_MM_function 131 = .ok (.iload_n 3, 1) := by decide +kernel
theorem d_MM_function_132 : decode b_MM_function 132 = .ok (.iastore, 1) := by decide +kernel
theorem d_MM_function_133 : decode b_MM_function 133 = .ok (.aload_n 0, 1) := by decide +kernel
theorem d_MM_function_134 : decode b_MM_function 134 = .ok (.getfield 34, 3) := by decide +kernel
theorem d_MM_function_137 : decode b_MM_function 137 = .ok (.aload_n 0, 1) := by decide +kernel
theorem d_MM_function_138 : decode b_MM_function 138 = .ok (.getfield 168, 3) := by decide +kernel
theorem d_MM_function_141 : decode b_MM_function 141 = .ok (.iload 4, 2) := by decide +kernel
theorem d_MM_function_143 : decode b_MM_function 143 = .ok (.iastore, 1) := by decide +kernel
theorem d_MM_function_144 : decode b_MM_function 144 = .ok (.iload_n 3, 1) := by decide +kernel
theorem d_MM_function_145 : decode b_MM_function 145 = .ok (.ifCond .lt 15, 3) := by decide +kernel
theorem d_MM_function_148 : decode b_MM_function 148 = .ok (.aload_n 0, 1) := by decide +kernel
theorem d_MM_function_149 : decode b_MM_function 149 = .ok (.iload_n 1, 1) := by decide +kernel
theorem d_MM_function_150 : decode b_MM_function 150 = .ok (.iload_n 2, 1) := by decide +kernel
theorem d_MM_function_151 : decode b_MM_function 151 = .ok (.iload_n 3, 1) := by decide +kernel
theorem d_MM_function_152 : decode b_MM_function 152 = .ok (.iload 4, 2) := by decide +kernel
theorem d_MM_function_154 : decode b_MM_function 154 = .ok (.invokevirtual 191, 3) := by decide +kernel
theorem d_MM_function_157 : decode b_MM_function 157 = .ok (.goto 25, 3) := by decide +kernel
theorem d_MM_function_160 : decode b_MM_function 160 = .ok (.iload_n 2, 1) := by decide +kernel
theorem d_MM_function_161 : decode b_MM_function 161 = .ok (.ifCond .lt 14, 3) := by decide +kernel
theorem d_MM_function_164 : decode b_MM_function 164 = .ok (.aload_n 0, 1) := by decide +kernel
theorem d_MM_function_165 : decode b_MM_function 165 = .ok (.iload_n 1, 1) := by decide +kernel
theorem d_MM_function_166 : decode b_MM_function 166 = .ok (.iload_n 2, 1) := by decide +kernel
theorem d_MM_function_167 : decode b_MM_function 167 = .ok (.iload 4, 2) := by decide +kernel
theorem d_MM_function_169 : decode b_MM_function 169 = .ok (.invokevirtual 165, 3) := by decide +kernel
theorem d_MM_function_172 : decode b_MM_function 172 = .ok (.goto 10, 3) := by decide +kernel
theorem d_MM_function_175 : decode b_MM_function 175 = .ok (.aload_n 0, 1) := by decide +kernel
theorem d_MM_function_176 : decode b_MM_function 176 = .ok (.iload_n 1, 1) := by decide +kernel
theorem d_MM_function_177 : decode b_MM_function 177 = .ok (.iload 4, 2) := by decide +kernel
theorem d_MM_function_179 : decode b_MM_function 179 = .ok (.invokevirtual 159, 3) := by decide +kernel
theorem d_MM_function_182 : decode b_MM_function 182 = .ok (.istore 6, 2) := by decide +kernel
theorem d_MM_function_184 : decode b_MM_function 184 = .ok (.aload_n 0, 1) := by decide +kernel
theorem d_MM_function_185 : decode b_MM_function 185 = .ok (.iconst 2, 1) := by decide +kernel
theorem d_MM_function_186 : decode b_MM_function 186 = .ok (.iload 6, 2) := by decide +kernel
theorem d_MM_function_188 : decode b_MM_function 188 = .ok (.iconst 0, 1) := by decide +kernel
theorem d_MM_function_189 : decode b_MM_function 189 = .ok (.invokevirtual 181, 3) := by decide +kernel
theorem d_MM_function_192 : decode b_MM_function 192 = .ok (.ireturn, 1) := by decide +kernel
def bk_MM_function_182 (Q : Int → zS → Prop) (z0 : Int) (σ : zS) : Prop :=
  wp_MM_newNet (fun r30 σ29 =>
    Q r30 σ29) 2 z0 0 σ
def bk_MM_function_68 (Q : Int → zS → Prop) (v1 : Int) (v2 : Int) (v3 : Int) (v4 : Int) (v5 : Int) (σ : zS) : Prop :=
  zc v4 ∧ ((v4 ≤ 0 →
    Q (-1) σ) ∧
   (¬ v4 ≤ 0 →
    zc v5 ∧ ((v4 < v5 →
      zc (σ 100 0) ∧ ((40 ≤ σ 100 0 →
        Q (-2) σ) ∧
       (¬ 40 ≤ σ 100 0 →
        zc (σ 113 0) ∧ ((σ 113 0 ≤ 32 →
          0 ≤ σ 100 0 ∧ σ 100 0 < 40 ∧ ∀ σ15, σ15 = zup σ 106 (σ 100 0) v1 →
          0 ≤ σ15 100 0 ∧ σ15 100 0 < 40 ∧ ∀ σ18, σ18 = zup σ15 107 (σ15 100 0) v2 →
          0 ≤ σ18 100 0 ∧ σ18 100 0 < 40 ∧ ∀ σ21, σ21 = zup σ18 108 (σ18 100 0) v3 →
          0 ≤ σ21 100 0 ∧ σ21 100 0 < 40 ∧ ∀ σ24, σ24 = zup σ21 109 (σ21 100 0) v4 →
          zc v3 ∧ ((v3 < 0 →
            zc v2 ∧ ((v2 < 0 →
              wp_MM_overOne (fun r28 σ27 =>
                bk_MM_function_182 Q r28 σ27) v1 v4 σ24) ∧
             (¬ v2 < 0 →
              wp_MM_overTwo (fun r32 σ31 =>
                bk_MM_function_182 Q r32 σ31) v1 v2 v4 σ24))) ∧
           (¬ v3 < 0 →
            wp_MM_overThree (fun r34 σ33 =>
              bk_MM_function_182 Q r34 σ33) v1 v2 v3 v4 σ24))) ∧
         (¬ σ 113 0 ≤ 32 →
          Q (-2) σ))))) ∧
     (¬ v4 < v5 →
      Q (-1) σ))))
def bk_MM_function_56 (Q : Int → zS → Prop) (v1 : Int) (v2 : Int) (v3 : Int) (v4 : Int) (v5 : Int) (σ : zS) : Prop :=
  zc v2 ∧ ((v2 = (-1) →
    zc v3 ∧ ((v3 = (-1) →
      bk_MM_function_68 Q v1 v2 v3 v4 v5 σ) ∧
     (¬ v3 = (-1) →
      Q (-1) σ))) ∧
   (¬ v2 = (-1) →
    bk_MM_function_68 Q v1 v2 v3 v4 v5 σ))
def bk_MM_function_43 (Q : Int → zS → Prop) (v1 : Int) (v2 : Int) (v3 : Int) (v4 : Int) (v5 : Int) (σ : zS) : Prop :=
  zc v3 ∧ ((v3 = (-1) →
    bk_MM_function_56 Q v1 v2 v3 v4 v5 σ) ∧
   (¬ v3 = (-1) →
    wp_MM_isNet (fun r37 σ36 =>
      zc r37 ∧ ((r37 = 0 →
        Q (-1) σ36) ∧
       (¬ r37 = 0 →
        bk_MM_function_56 Q v1 v2 v3 v4 v5 σ36))) v3 σ))
def bk_MM_function_20 (Q : Int → zS → Prop) (v1 : Int) (v2 : Int) (v3 : Int) (v4 : Int) (z0 : Int) (σ : zS) : Prop :=
  wp_MM_isNet (fun r4 σ3 =>
    zc r4 ∧ ((r4 = 0 →
      Q (-1) σ3) ∧
     (¬ r4 = 0 →
      zc v2 ∧ ((v2 = (-1) →
        bk_MM_function_43 Q v1 v2 v3 v4 z0 σ3) ∧
       (¬ v2 = (-1) →
        wp_MM_isNet (fun r40 σ39 =>
          zc r40 ∧ ((r40 = 0 →
            Q (-1) σ39) ∧
           (¬ r40 = 0 →
            bk_MM_function_43 Q v1 v2 v3 v4 z0 σ39))) v2 σ3))))) v1 σ
def wp_MM_function (Q : Int → zS → Prop) (v1 : Int) (v2 : Int) (v3 : Int) (v4 : Int) (σ : zS) : Prop :=
  zc v3 ∧ ((v3 < 0 →
    zc v2 ∧ ((v2 < 0 →
      bk_MM_function_20 Q v1 v2 v3 v4 3 σ) ∧
     (¬ v2 < 0 →
      bk_MM_function_20 Q v1 v2 v3 v4 15 σ))) ∧
   (¬ v3 < 0 →
    bk_MM_function_20 Q v1 v2 v3 v4 255 σ))
set_option maxHeartbeats 4000000 in
set_option maxRecDepth 100000 in
theorem wk_MM_function_182 {E : zE} {D : va_G} {g : zG} {A : Nat → Prop} {ad : zA} {Q : Int → zS → Prop} (C : zX E b_MM_function R_MM D g { frames := 8, cells := 0, slots := 0, locals := 196 } 7) (R : zRt E (some .int) (zQi D g ad Q A) 0 0 A) (z0 : Int) (σ : zS) (h : bk_MM_function_182 Q z0 σ) : zW E (zOK D A (zst E) g ad) 0 0 182 [(0, .ref (ad (0, 3)))] [.int (zi z0)] σ := by
  unfold bk_MM_function_182 at h
  refine z_istore (L' := [(6, .int (zi z0)), (0, .ref (ad (0, 3)))]) C (pc := 182) d_MM_function_182 (by decide) rfl ?_
  refine z_aload_n C (pc := 184) d_MM_function_184 1 rfl ?_
  refine z_iconst C (pc := 185) d_MM_function_185 ?_
  refine z_iload C (pc := 186) d_MM_function_186 0 rfl ?_
  refine z_iconst C (pc := 188) d_MM_function_188 ?_
  refine m_calli (As := [.int (zi 2), .int (zi z0), .int (zi 0)]) C fy_MM_newNet rfl wd_867 (pc := 189) d_MM_function_189 ⟨rfl, rfl, Nat.le_of_ble_eq_true rfl, Nat.le_of_ble_eq_true rfl⟩ rfl rfl (Nat.le_of_ble_eq_true rfl) h (c_MM_newNet (zln E) D g ad _ _ _ _ _) (fun r30 σ29 h => ?_)
  exact z_iret C R (pc := 192) d_MM_function_192 h
set_option maxHeartbeats 4000000 in
set_option maxRecDepth 100000 in
theorem wk_MM_function_68 {E : zE} {D : va_G} {g : zG} {A : Nat → Prop} {ad : zA} {Q : Int → zS → Prop} (C : zX E b_MM_function R_MM D g { frames := 8, cells := 0, slots := 0, locals := 196 } 7) (R : zRt E (some .int) (zQi D g ad Q A) 0 0 A) (v1 : Int) (v2 : Int) (v3 : Int) (v4 : Int) (v5 : Int) (σ : zS) (h : bk_MM_function_68 Q v1 v2 v3 v4 v5 σ) : zW E (zOK D A (zst E) g ad) 0 0 68 [(0, .ref (ad (0, 3))), (1, .int (zi v1)), (2, .int (zi v2)), (3, .int (zi v3)), (4, .int (zi v4)), (5, .int (zi v5))] [] σ := by
  unfold bk_MM_function_68 at h
  refine z_iload C (pc := 68) d_MM_function_68 4 rfl ?_
  obtain ⟨hc9, h⟩ := h
  refine z_if_le (tgt := 80) C (pc := 70) d_MM_function_70 (by decide) hc9 h (fun h => ?_) (fun h => ?_)
  · refine z_iconst C (pc := 80) d_MM_function_80 ?_
    exact z_iret C R (pc := 81) d_MM_function_81 h
  · refine z_iload C (pc := 73) d_MM_function_73 4 rfl ?_
    refine z_iload C (pc := 75) d_MM_function_75 5 rfl ?_
    obtain ⟨hc10, h⟩ := h
    refine z_icmp_lt (tgt := 82) C (pc := 77) d_MM_function_77 (by decide) hc9 hc10 h (fun h => ?_) (fun h => ?_)
    · refine z_aload_n C (pc := 82) d_MM_function_82 0 rfl ?_
      refine m_getI C 0 100 rfl (by decide) rfl wd_704 (pc := 83) d_MM_function_83 ?_
      refine z_bipush C (pc := 86) d_MM_function_86 (by decide) ?_
      obtain ⟨hc11, h⟩ := h
      refine z_icmp_ge (tgt := 100) C (pc := 88) d_MM_function_88 (by decide) hc11 (by decide) h (fun h => ?_) (fun h => ?_)
      · refine z_bipush C (pc := 100) d_MM_function_100 (by decide) ?_
        exact z_iret C R (pc := 102) d_MM_function_102 h
      · refine z_aload_n C (pc := 91) d_MM_function_91 0 rfl ?_
        refine m_getI C 13 113 rfl (by decide) rfl wd_717 (pc := 92) d_MM_function_92 ?_
        refine z_bipush C (pc := 95) d_MM_function_95 (by decide) ?_
        obtain ⟨hc12, h⟩ := h
        refine z_icmp_le (tgt := 103) C (pc := 97) d_MM_function_97 (by decide) hc12 (by decide) h (fun h => ?_) (fun h => ?_)
        · refine z_aload_n C (pc := 103) d_MM_function_103 0 rfl ?_
          refine m_getA C 6 (by decide) rfl wd_710 (pc := 104) d_MM_function_104 ?_
          refine z_aload_n C (pc := 107) d_MM_function_107 0 rfl ?_
          refine m_getI C 0 100 rfl (by decide) rfl wd_704 (pc := 108) d_MM_function_108 ?_
          refine z_iload_n C (pc := 111) d_MM_function_111 1 rfl ?_
          obtain ⟨hc13, hc14, h⟩ := h
          refine m_iast C 6 106 40 rfl rfl (by decide) hc13 hc14 (pc := 112) d_MM_function_112 ?_
          refine zN h (fun σ15 eσ15 h => ?_)
          refine z_aload_n C (pc := 113) d_MM_function_113 0 rfl ?_
          refine m_getA C 7 (by decide) rfl wd_711 (pc := 114) d_MM_function_114 ?_
          refine z_aload_n C (pc := 117) d_MM_function_117 0 rfl ?_
          refine m_getI C 0 100 rfl (by decide) rfl wd_704 (pc := 118) d_MM_function_118 ?_
          refine z_iload_n C (pc := 121) d_MM_function_121 2 rfl ?_
          obtain ⟨hc16, hc17, h⟩ := h
          refine m_iast C 7 107 40 rfl rfl (by decide) hc16 hc17 (pc := 122) d_MM_function_122 ?_
          refine zN h (fun σ18 eσ18 h => ?_)
          refine z_aload_n C (pc := 123) d_MM_function_123 0 rfl ?_
          refine m_getA C 8 (by decide) rfl wd_712 (pc := 124) d_MM_function_124 ?_
          refine z_aload_n C (pc := 127) d_MM_function_127 0 rfl ?_
          refine m_getI C 0 100 rfl (by decide) rfl wd_704 (pc := 128) d_MM_function_128 ?_
          refine z_iload_n C (pc := 131) d_MM_function_131 3 rfl ?_
          obtain ⟨hc19, hc20, h⟩ := h
          refine m_iast C 8 108 40 rfl rfl (by decide) hc19 hc20 (pc := 132) d_MM_function_132 ?_
          refine zN h (fun σ21 eσ21 h => ?_)
          refine z_aload_n C (pc := 133) d_MM_function_133 0 rfl ?_
          refine m_getA C 9 (by decide) rfl wd_713 (pc := 134) d_MM_function_134 ?_
          refine z_aload_n C (pc := 137) d_MM_function_137 0 rfl ?_
          refine m_getI C 0 100 rfl (by decide) rfl wd_704 (pc := 138) d_MM_function_138 ?_
          refine z_iload C (pc := 141) d_MM_function_141 4 rfl ?_
          obtain ⟨hc22, hc23, h⟩ := h
          refine m_iast C 9 109 40 rfl rfl (by decide) hc22 hc23 (pc := 143) d_MM_function_143 ?_
          refine zN h (fun σ24 eσ24 h => ?_)
          refine z_iload_n C (pc := 144) d_MM_function_144 3 rfl ?_
          obtain ⟨hc25, h⟩ := h
          refine z_if_lt (tgt := 160) C (pc := 145) d_MM_function_145 (by decide) hc25 h (fun h => ?_) (fun h => ?_)
          · refine z_iload_n C (pc := 160) d_MM_function_160 2 rfl ?_
            obtain ⟨hc26, h⟩ := h
            refine z_if_lt (tgt := 175) C (pc := 161) d_MM_function_161 (by decide) hc26 h (fun h => ?_) (fun h => ?_)
            · refine z_aload_n C (pc := 175) d_MM_function_175 0 rfl ?_
              refine z_iload_n C (pc := 176) d_MM_function_176 1 rfl ?_
              refine z_iload C (pc := 177) d_MM_function_177 4 rfl ?_
              refine m_calli (As := [.int (zi v1), .int (zi v4)]) C fy_MM_overOne rfl wd_895 (pc := 179) d_MM_function_179 ⟨rfl, rfl, Nat.le_of_ble_eq_true rfl, Nat.le_of_ble_eq_true rfl⟩ rfl rfl (Nat.le_of_ble_eq_true rfl) h (c_MM_overOne (zln E) D g ad _ _ _ _) (fun r28 σ27 h => ?_)
              refine z_sub [0] rfl ?_
              exact wk_MM_function_182 C R _ _ h
            · refine z_aload_n C (pc := 164) d_MM_function_164 0 rfl ?_
              refine z_iload_n C (pc := 165) d_MM_function_165 1 rfl ?_
              refine z_iload_n C (pc := 166) d_MM_function_166 2 rfl ?_
              refine z_iload C (pc := 167) d_MM_function_167 4 rfl ?_
              refine m_calli (As := [.int (zi v1), .int (zi v2), .int (zi v4)]) C fy_MM_overTwo rfl wd_891 (pc := 169) d_MM_function_169 ⟨rfl, rfl, Nat.le_of_ble_eq_true rfl, Nat.le_of_ble_eq_true rfl⟩ rfl rfl (Nat.le_of_ble_eq_true rfl) h (c_MM_overTwo (zln E) D g ad _ _ _ _ _) (fun r32 σ31 h => ?_)
              refine z_goto (tgt := 182) C (pc := 172) d_MM_function_172 (by decide) ?_
              refine z_sub [0] rfl ?_
              exact wk_MM_function_182 C R _ _ h
          · refine z_aload_n C (pc := 148) d_MM_function_148 0 rfl ?_
            refine z_iload_n C (pc := 149) d_MM_function_149 1 rfl ?_
            refine z_iload_n C (pc := 150) d_MM_function_150 2 rfl ?_
            refine z_iload_n C (pc := 151) d_MM_function_151 3 rfl ?_
            refine z_iload C (pc := 152) d_MM_function_152 4 rfl ?_
            refine m_calli (As := [.int (zi v1), .int (zi v2), .int (zi v3), .int (zi v4)]) C fy_MM_overThree rfl wd_887 (pc := 154) d_MM_function_154 ⟨rfl, rfl, Nat.le_of_ble_eq_true rfl, Nat.le_of_ble_eq_true rfl⟩ rfl rfl (Nat.le_of_ble_eq_true rfl) h (c_MM_overThree (zln E) D g ad _ _ _ _ _ _) (fun r34 σ33 h => ?_)
            refine z_goto (tgt := 182) C (pc := 157) d_MM_function_157 (by decide) ?_
            refine z_sub [0] rfl ?_
            exact wk_MM_function_182 C R _ _ h
        · refine z_bipush C (pc := 100) d_MM_function_100 (by decide) ?_
          exact z_iret C R (pc := 102) d_MM_function_102 h
    · refine z_iconst C (pc := 80) d_MM_function_80 ?_
      exact z_iret C R (pc := 81) d_MM_function_81 h
set_option maxHeartbeats 4000000 in
set_option maxRecDepth 100000 in
theorem wk_MM_function_56 {E : zE} {D : va_G} {g : zG} {A : Nat → Prop} {ad : zA} {Q : Int → zS → Prop} (C : zX E b_MM_function R_MM D g { frames := 8, cells := 0, slots := 0, locals := 196 } 7) (R : zRt E (some .int) (zQi D g ad Q A) 0 0 A) (v1 : Int) (v2 : Int) (v3 : Int) (v4 : Int) (v5 : Int) (σ : zS) (h : bk_MM_function_56 Q v1 v2 v3 v4 v5 σ) : zW E (zOK D A (zst E) g ad) 0 0 56 [(0, .ref (ad (0, 3))), (1, .int (zi v1)), (2, .int (zi v2)), (3, .int (zi v3)), (4, .int (zi v4)), (5, .int (zi v5))] [] σ := by
  unfold bk_MM_function_56 at h
  refine z_iload_n C (pc := 56) d_MM_function_56 2 rfl ?_
  refine z_iconst C (pc := 57) d_MM_function_57 ?_
  obtain ⟨hc8, h⟩ := h
  refine z_icmp_ne (tgt := 68) C (pc := 58) d_MM_function_58 (by decide) hc8 (by decide) h (fun h => ?_) (fun h => ?_)
  · exact wk_MM_function_68 C R _ _ _ _ _ _ h
  · refine z_iload_n C (pc := 61) d_MM_function_61 3 rfl ?_
    refine z_iconst C (pc := 62) d_MM_function_62 ?_
    obtain ⟨hc35, h⟩ := h
    refine z_icmp_eq (tgt := 68) C (pc := 63) d_MM_function_63 (by decide) hc35 (by decide) h (fun h => ?_) (fun h => ?_)
    · exact wk_MM_function_68 C R _ _ _ _ _ _ h
    · refine z_iconst C (pc := 66) d_MM_function_66 ?_
      exact z_iret C R (pc := 67) d_MM_function_67 h
set_option maxHeartbeats 4000000 in
set_option maxRecDepth 100000 in
theorem wk_MM_function_43 {E : zE} {D : va_G} {g : zG} {A : Nat → Prop} {ad : zA} {Q : Int → zS → Prop} (C : zX E b_MM_function R_MM D g { frames := 8, cells := 0, slots := 0, locals := 196 } 7) (R : zRt E (some .int) (zQi D g ad Q A) 0 0 A) (v1 : Int) (v2 : Int) (v3 : Int) (v4 : Int) (v5 : Int) (σ : zS) (h : bk_MM_function_43 Q v1 v2 v3 v4 v5 σ) : zW E (zOK D A (zst E) g ad) 0 0 43 [(0, .ref (ad (0, 3))), (1, .int (zi v1)), (2, .int (zi v2)), (3, .int (zi v3)), (4, .int (zi v4)), (5, .int (zi v5))] [] σ := by
  unfold bk_MM_function_43 at h
  refine z_iload_n C (pc := 43) d_MM_function_43 3 rfl ?_
  refine z_iconst C (pc := 44) d_MM_function_44 ?_
  obtain ⟨hc7, h⟩ := h
  refine z_icmp_eq (tgt := 56) C (pc := 45) d_MM_function_45 (by decide) hc7 (by decide) h (fun h => ?_) (fun h => ?_)
  · exact wk_MM_function_56 C R _ _ _ _ _ _ h
  · refine z_aload_n C (pc := 48) d_MM_function_48 0 rfl ?_
    refine z_iload_n C (pc := 49) d_MM_function_49 3 rfl ?_
    refine m_calli (As := [.int (zi v3)]) C fy_MM_isNet rfl wd_883 (pc := 50) d_MM_function_50 ⟨rfl, rfl, Nat.le_of_ble_eq_true rfl, Nat.le_of_ble_eq_true rfl⟩ rfl rfl (Nat.le_of_ble_eq_true rfl) h (c_MM_isNet (zln E) D g ad _ _ _) (fun r37 σ36 h => ?_)
    obtain ⟨hc38, h⟩ := h
    refine z_if_eq (tgt := 66) C (pc := 53) d_MM_function_53 (by decide) hc38 h (fun h => ?_) (fun h => ?_)
    · refine z_iconst C (pc := 66) d_MM_function_66 ?_
      exact z_iret C R (pc := 67) d_MM_function_67 h
    · exact wk_MM_function_56 C R _ _ _ _ _ _ h
set_option maxHeartbeats 4000000 in
set_option maxRecDepth 100000 in
theorem wk_MM_function_20 {E : zE} {D : va_G} {g : zG} {A : Nat → Prop} {ad : zA} {Q : Int → zS → Prop} (C : zX E b_MM_function R_MM D g { frames := 8, cells := 0, slots := 0, locals := 196 } 7) (R : zRt E (some .int) (zQi D g ad Q A) 0 0 A) (v1 : Int) (v2 : Int) (v3 : Int) (v4 : Int) (z0 : Int) (σ : zS) (h : bk_MM_function_20 Q v1 v2 v3 v4 z0 σ) : zW E (zOK D A (zst E) g ad) 0 0 20 [(0, .ref (ad (0, 3))), (1, .int (zi v1)), (2, .int (zi v2)), (3, .int (zi v3)), (4, .int (zi v4))] [.int (zi z0)] σ := by
  unfold bk_MM_function_20 at h
  refine z_istore (L' := [(5, .int (zi z0)), (0, .ref (ad (0, 3))), (1, .int (zi v1)), (2, .int (zi v2)), (3, .int (zi v3)), (4, .int (zi v4))]) C (pc := 20) d_MM_function_20 (by decide) rfl ?_
  refine z_aload_n C (pc := 22) d_MM_function_22 1 rfl ?_
  refine z_iload_n C (pc := 23) d_MM_function_23 2 rfl ?_
  refine m_calli (As := [.int (zi v1)]) C fy_MM_isNet rfl wd_883 (pc := 24) d_MM_function_24 ⟨rfl, rfl, Nat.le_of_ble_eq_true rfl, Nat.le_of_ble_eq_true rfl⟩ rfl rfl (Nat.le_of_ble_eq_true rfl) h (c_MM_isNet (zln E) D g ad _ _ _) (fun r4 σ3 h => ?_)
  obtain ⟨hc5, h⟩ := h
  refine z_if_eq (tgt := 66) C (pc := 27) d_MM_function_27 (by decide) hc5 h (fun h => ?_) (fun h => ?_)
  · refine z_iconst C (pc := 66) d_MM_function_66 ?_
    exact z_iret C R (pc := 67) d_MM_function_67 h
  · refine z_iload_n C (pc := 30) d_MM_function_30 3 rfl ?_
    refine z_iconst C (pc := 31) d_MM_function_31 ?_
    obtain ⟨hc6, h⟩ := h
    refine z_icmp_eq (tgt := 43) C (pc := 32) d_MM_function_32 (by decide) hc6 (by decide) h (fun h => ?_) (fun h => ?_)
    · refine z_sub [1, 2, 3, 4, 5, 0] rfl ?_
      exact wk_MM_function_43 C R _ _ _ _ _ _ h
    · refine z_aload_n C (pc := 35) d_MM_function_35 1 rfl ?_
      refine z_iload_n C (pc := 36) d_MM_function_36 3 rfl ?_
      refine m_calli (As := [.int (zi v2)]) C fy_MM_isNet rfl wd_883 (pc := 37) d_MM_function_37 ⟨rfl, rfl, Nat.le_of_ble_eq_true rfl, Nat.le_of_ble_eq_true rfl⟩ rfl rfl (Nat.le_of_ble_eq_true rfl) h (c_MM_isNet (zln E) D g ad _ _ _) (fun r40 σ39 h => ?_)
      obtain ⟨hc41, h⟩ := h
      refine z_if_eq (tgt := 66) C (pc := 40) d_MM_function_40 (by decide) hc41 h (fun h => ?_) (fun h => ?_)
      · refine z_iconst C (pc := 66) d_MM_function_66 ?_
        exact z_iret C R (pc := 67) d_MM_function_67 h
      · refine z_sub [1, 2, 3, 4, 5, 0] rfl ?_
        exact wk_MM_function_43 C R _ _ _ _ _ _ h
set_option maxHeartbeats 4000000 in
set_option maxRecDepth 100000 in
theorem c_MM_function (l : Launch) (D : va_G) (g : zG) (ad : zA) (v1 : Int) (v2 : Int) (v3 : Int) (v4 : Int) (Q : Int → zS → Prop) (σ : zS) (h : wp_MM_function Q v1 v2 v3 v4 σ) : zMi l y_MM_function b_MM_function 7 (some .int) { frames := 8, cells := 0, slots := 0, locals := 196 } D g ad σ [.ref (ad (0, 3)), .int (zi v1), .int (zi v2), .int (zi v3), .int (zi v4)] Q := by
  unfold wp_MM_function at h
  refine zM_of (by decide) (Nat.le_of_ble_eq_true rfl) (fun E C R hl => ?_)
  have C : zX E b_MM_function R_MM D g { frames := 8, cells := 0, slots := 0, locals := 196 } 7 := C
  refine z_sub (L' := [(0, .ref (ad (0, 3))), (1, .int (zi v1)), (2, .int (zi v2)), (3, .int (zi v3)), (4, .int (zi v4))]) [0, 1, 2, 3, 4] rfl ?_
  refine z_iload_n C (pc := 0) d_MM_function_0 3 rfl ?_
  obtain ⟨hc1, h⟩ := h
  refine z_if_lt (tgt := 10) C (pc := 1) d_MM_function_1 (by decide) hc1 h (fun h => ?_) (fun h => ?_)
  · refine z_iload_n C (pc := 10) d_MM_function_10 2 rfl ?_
    obtain ⟨hc2, h⟩ := h
    refine z_if_lt (tgt := 19) C (pc := 11) d_MM_function_11 (by decide) hc2 h (fun h => ?_) (fun h => ?_)
    · refine z_iconst C (pc := 19) d_MM_function_19 ?_
      exact wk_MM_function_20 C R _ _ _ _ _ _ h
    · refine z_bipush C (pc := 14) d_MM_function_14 (by decide) ?_
      refine z_goto (tgt := 20) C (pc := 16) d_MM_function_16 (by decide) ?_
      exact wk_MM_function_20 C R _ _ _ _ _ _ h
  · refine z_sipush C (pc := 4) d_MM_function_4 (by decide) ?_
    refine z_goto (tgt := 20) C (pc := 7) d_MM_function_7 (by decide) ?_
    exact wk_MM_function_20 C R _ _ _ _ _ _ h
theorem d_MM_drive_0 : decode b_MM_drive 0 = .ok (.aload_n 0, 1) := by decide +kernel
theorem d_MM_drive_1 : decode b_MM_drive 1 = .ok (.iload_n 1, 1) := by decide +kernel
theorem d_MM_drive_2 : decode b_MM_drive 2 = .ok (.invokevirtual 187, 3) := by decide +kernel
theorem d_MM_drive_5 : decode b_MM_drive 5 = .ok (.ifCond .eq 21, 3) := by decide +kernel
theorem d_MM_drive_8 : decode b_MM_drive 8 = .ok (.aload_n 0, 1) := by decide +kernel
theorem d_MM_drive_9 : decode b_MM_drive 9 = .ok (.iload_n 2, 1) := by decide +kernel
theorem d_MM_drive_10 : decode b_MM_drive 10 = .ok (.invokevirtual 187, 3) := by decide +kernel
theorem d_MM_drive_13 : decode b_MM_drive 13 = .ok (.ifCond .eq 13, 3) := by decide +kernel
theorem d_MM_drive_16 : decode b_MM_drive 16 = .ok (.aload_n 0, 1) := by decide +kernel
theorem d_MM_drive_17 : decode b_MM_drive 17 = .ok (.getfield 7, 3) := by decide +kernel
theorem d_MM_drive_20 : decode b_MM_drive 20 = .ok (.iload_n 1, 1) := by decide +kernel
theorem d_MM_drive_21 : decode b_MM_drive 21 = .ok (.iaload, 1) := by decide +kernel
theorem d_MM_drive_22 : decode b_MM_drive 22 = .ok (.iconst 1, 1) := by decide +kernel
theorem d_MM_drive_23 : decode b_MM_drive 23 = .ok (.if_icmp .eq 5, 3) := by decide +kernel
theorem d_MM_drive_26 : decode b_MM_drive 26 = .ok (.iconst 0, 1) := by decide +kernel
theorem d_MM_drive_27 : decode b_MM_drive 27 = .ok (.ireturn, 1) := by decide +kernel
theorem d_MM_drive_28 : decode b_MM_drive 28 = .ok (.aload_n 0, 1) := by decide +kernel
theorem d_MM_drive_29 : decode b_MM_drive 29 = .ok (.getfield 22, 3) := by decide +kernel
theorem d_MM_drive_32 : decode b_MM_drive 32 = .ok (.iload_n 1, 1) := by decide +kernel
theorem d_MM_drive_33 : decode b_MM_drive 33 = .ok (.iload_n 2, 1) := by decide +kernel
theorem d_MM_drive_34 : decode b_MM_drive 34 = .ok (.iastore, 1) := by decide +kernel
theorem d_MM_drive_35 : decode b_MM_drive 35 = .ok (.aload_n 0, 1) := by decide +kernel
theorem d_MM_drive_36 : decode b_MM_drive 36 = .ok (.invokevirtual 175, 3) := by decide +kernel
theorem d_MM_drive_39 : decode b_MM_drive 39 = .ok (.iconst 1, 1) := by decide +kernel
theorem d_MM_drive_40 : decode b_MM_drive 40 = .ok (.ireturn, 1) := by decide +kernel
def wp_MM_drive (Q : Int → zS → Prop) (v1 : Int) (v2 : Int) (σ : zS) : Prop :=
  wp_MM_isNet (fun r2 σ1 =>
    zc r2 ∧ ((r2 = 0 →
      Q 0 σ1) ∧
     (¬ r2 = 0 →
      wp_MM_isNet (fun r5 σ4 =>
        zc r5 ∧ ((r5 = 0 →
          Q 0 σ4) ∧
         (¬ r5 = 0 →
          0 ≤ v1 ∧ v1 < 40 ∧ 
          zc (σ4 101 v1) ∧ ((σ4 101 v1 = 1 →
            ∀ σ12, σ12 = zup σ4 105 v1 v2 →
            wp_MM_changed (fun σ13 =>
              Q 1 σ13) σ12) ∧
           (¬ σ4 101 v1 = 1 →
            Q 0 σ4))))) v2 σ1))) v1 σ
set_option maxHeartbeats 4000000 in
set_option maxRecDepth 100000 in
theorem c_MM_drive (l : Launch) (D : va_G) (g : zG) (ad : zA) (v1 : Int) (v2 : Int) (Q : Int → zS → Prop) (σ : zS) (h : wp_MM_drive Q v1 v2 σ) : zMi l y_MM_drive b_MM_drive 3 (some .boolean) { frames := 1, cells := 0, slots := 0, locals := 21 } D g ad σ [.ref (ad (0, 3)), .int (zi v1), .int (zi v2)] Q := by
  unfold wp_MM_drive at h
  refine zM_of (by decide) (Nat.le_of_ble_eq_true rfl) (fun E C R hl => ?_)
  have C : zX E b_MM_drive R_MM D g { frames := 1, cells := 0, slots := 0, locals := 21 } 3 := C
  refine z_sub (L' := [(0, .ref (ad (0, 3))), (1, .int (zi v1)), (2, .int (zi v2))]) [0, 1, 2] rfl ?_
  refine z_aload_n C (pc := 0) d_MM_drive_0 0 rfl ?_
  refine z_iload_n C (pc := 1) d_MM_drive_1 1 rfl ?_
  refine m_calli (As := [.int (zi v1)]) C fy_MM_isNet rfl wd_883 (pc := 2) d_MM_drive_2 ⟨rfl, rfl, Nat.le_of_ble_eq_true rfl, Nat.le_of_ble_eq_true rfl⟩ rfl rfl (Nat.le_of_ble_eq_true rfl) h (c_MM_isNet (zln E) D g ad _ _ _) (fun r2 σ1 h => ?_)
  obtain ⟨hc3, h⟩ := h
  refine z_if_eq (tgt := 26) C (pc := 5) d_MM_drive_5 (by decide) hc3 h (fun h => ?_) (fun h => ?_)
  · refine z_iconst C (pc := 26) d_MM_drive_26 ?_
    exact z_zret C R (pc := 27) d_MM_drive_27 (by decide) h
  · refine z_aload_n C (pc := 8) d_MM_drive_8 0 rfl ?_
    refine z_iload_n C (pc := 9) d_MM_drive_9 2 rfl ?_
    refine m_calli (As := [.int (zi v2)]) C fy_MM_isNet rfl wd_883 (pc := 10) d_MM_drive_10 ⟨rfl, rfl, Nat.le_of_ble_eq_true rfl, Nat.le_of_ble_eq_true rfl⟩ rfl rfl (Nat.le_of_ble_eq_true rfl) h (c_MM_isNet (zln E) D g ad _ _ _) (fun r5 σ4 h => ?_)
    obtain ⟨hc6, h⟩ := h
    refine z_if_eq (tgt := 26) C (pc := 13) d_MM_drive_13 (by decide) hc6 h (fun h => ?_) (fun h => ?_)
    · refine z_iconst C (pc := 26) d_MM_drive_26 ?_
      exact z_zret C R (pc := 27) d_MM_drive_27 (by decide) h
    · refine z_aload_n C (pc := 16) d_MM_drive_16 0 rfl ?_
      refine m_getA C 1 (by decide) rfl wd_705 (pc := 17) d_MM_drive_17 ?_
      refine z_iload_n C (pc := 20) d_MM_drive_20 1 rfl ?_
      obtain ⟨hc7, hc8, h⟩ := h
      refine m_iald C 1 101 40 rfl rfl (by decide) hc7 hc8 (pc := 21) d_MM_drive_21 ?_
      refine z_iconst C (pc := 22) d_MM_drive_22 ?_
      obtain ⟨hc9, h⟩ := h
      refine z_icmp_eq (tgt := 28) C (pc := 23) d_MM_drive_23 (by decide) hc9 (by decide) h (fun h => ?_) (fun h => ?_)
      · refine z_aload_n C (pc := 28) d_MM_drive_28 0 rfl ?_
        refine m_getA C 5 (by decide) rfl wd_709 (pc := 29) d_MM_drive_29 ?_
        refine z_iload_n C (pc := 32) d_MM_drive_32 1 rfl ?_
        refine z_iload_n C (pc := 33) d_MM_drive_33 2 rfl ?_
        refine m_iast C 5 105 40 rfl rfl (by decide) hc7 hc8 (pc := 34) d_MM_drive_34 ?_
        refine zN h (fun σ12 eσ12 h => ?_)
        refine z_aload_n C (pc := 35) d_MM_drive_35 0 rfl ?_
        refine m_callv (As := []) C fy_MM_changed rfl wd_871 (pc := 36) d_MM_drive_36 ⟨rfl, rfl, Nat.le_of_ble_eq_true rfl, Nat.le_of_ble_eq_true rfl⟩ rfl rfl (Nat.le_of_ble_eq_true rfl) h (c_MM_changed (zln E) D g ad _ _) (fun σ13 h => ?_)
        refine z_iconst C (pc := 39) d_MM_drive_39 ?_
        exact z_zret C R (pc := 40) d_MM_drive_40 (by decide) h
      · refine z_iconst C (pc := 26) d_MM_drive_26 ?_
        exact z_zret C R (pc := 27) d_MM_drive_27 (by decide) h
theorem d_MM_output_0 : decode b_MM_output 0 = .ok (.aload_n 0, 1) := by decide +kernel
theorem d_MM_output_1 : decode b_MM_output 1 = .ok (.iload_n 1, 1) := by decide +kernel
theorem d_MM_output_2 : decode b_MM_output 2 = .ok (.invokevirtual 187, 3) := by decide +kernel
theorem d_MM_output_5 : decode b_MM_output 5 = .ok (.ifCond .ne 5, 3) := by decide +kernel
theorem d_MM_output_8 : decode b_MM_output 8 = .ok (.iconst (-1), 1) := by decide +kernel
theorem d_MM_output_9 : decode b_MM_output 9 = .ok (.ireturn, 1) := by decide +kernel
theorem d_MM_output_10 : decode b_MM_output 10 = .ok (.aload_n 0, 1) := by decide +kernel
theorem d_MM_output_11 : decode b_MM_output 11 = .ok (.getfield 194, 3) := by decide +kernel
theorem d_MM_output_14 : decode b_MM_output 14 = .ok (.iconst 4, 1) := by decide +kernel
theorem d_MM_output_15 : decode b_MM_output 15 = .ok (.if_icmp .lt 6, 3) := by decide +kernel
theorem d_MM_output_18 : decode b_MM_output 18 = .ok (.bipush (-2), 2) := by decide +kernel
theorem d_MM_output_20 : decode b_MM_output 20 = .ok (.ireturn, 1) := by decide +kernel
theorem d_MM_output_21 : decode b_MM_output 21 = .ok (.aload_n 0, 1) := by decide +kernel
theorem d_MM_output_22 : decode b_MM_output 22 = .ok (.getfield 52, 3) := by decide +kernel
theorem d_MM_output_25 : decode b_MM_output 25 = .ok (.aload_n 0, 1) := by decide +kernel
theorem d_MM_output_26 : decode b_MM_output 26 = .ok (.getfield 194, 3) := by decide +kernel
theorem d_MM_output_29 : decode b_MM_output 29 = .ok (.iload_n 1, 1) := by decide +kernel
theorem d_MM_output_30 : decode b_MM_output 30 = .ok (.iastore, 1) := by decide +kernel
theorem d_MM_output_31 : decode b_MM_output 31 = .ok (.aload_n 0, 1) := by decide +kernel
theorem d_MM_output_32 : decode b_MM_output 32 = .ok (.dup, 1) := by decide +kernel
theorem d_MM_output_33 : decode b_MM_output 33 = .ok (.getfield 194, 3) := by decide +kernel
theorem d_MM_output_36 : decode b_MM_output 36 = .ok (.iconst 1, 1) := by decide +kernel
theorem d_MM_output_37 : decode b_MM_output 37 = .ok (.iadd, 1) := by decide +kernel
theorem d_MM_output_38 : decode b_MM_output 38 = .ok (.putfield 194, 3) := by decide +kernel
theorem d_MM_output_41 : decode b_MM_output 41 = .ok (.aload_n 0, 1) := by decide +kernel
theorem d_MM_output_42 : decode b_MM_output 42 = .ok (.invokevirtual 175, 3) := by decide +kernel
theorem d_MM_output_45 : decode b_MM_output 45 = .ok (.aload_n 0, 1) := by decide +kernel
theorem d_MM_output_46 : decode b_MM_output 46 = .ok (.getfield 194, 3) := by decide +kernel
theorem d_MM_output_49 : decode b_MM_output 49 = .ok (.iconst 1, 1) := by decide +kernel
theorem d_MM_output_50 : decode b_MM_output 50 = .ok (.isub, 1) := by decide +kernel
theorem d_MM_output_51 : decode b_MM_output 51 = .ok (.ireturn, 1) := by decide +kernel
def wp_MM_output (Q : Int → zS → Prop) (v1 : Int) (σ : zS) : Prop :=
  wp_MM_isNet (fun r2 σ1 =>
    zc r2 ∧ ((r2 = 0 →
      Q (-1) σ1) ∧
     (¬ r2 = 0 →
      zc (σ1 118 0) ∧ ((σ1 118 0 < 4 →
        0 ≤ σ1 118 0 ∧ σ1 118 0 < 4 ∧ ∀ σ7, σ7 = zup σ1 119 (σ1 118 0) v1 →
        ∀ σ8, σ8 = zup σ7 118 0 ((σ7 118 0) + 1) →
        wp_MM_changed (fun σ9 =>
          Q ((σ9 118 0) - 1) σ9) σ8) ∧
       (¬ σ1 118 0 < 4 →
        Q (-2) σ1))))) v1 σ
set_option maxHeartbeats 4000000 in
set_option maxRecDepth 100000 in
theorem c_MM_output (l : Launch) (D : va_G) (g : zG) (ad : zA) (v1 : Int) (Q : Int → zS → Prop) (σ : zS) (h : wp_MM_output Q v1 σ) : zMi l y_MM_output b_MM_output 2 (some .int) { frames := 1, cells := 0, slots := 0, locals := 21 } D g ad σ [.ref (ad (0, 3)), .int (zi v1)] Q := by
  unfold wp_MM_output at h
  refine zM_of (by decide) (Nat.le_of_ble_eq_true rfl) (fun E C R hl => ?_)
  have C : zX E b_MM_output R_MM D g { frames := 1, cells := 0, slots := 0, locals := 21 } 2 := C
  refine z_sub (L' := [(0, .ref (ad (0, 3))), (1, .int (zi v1))]) [0, 1] rfl ?_
  refine z_aload_n C (pc := 0) d_MM_output_0 0 rfl ?_
  refine z_iload_n C (pc := 1) d_MM_output_1 1 rfl ?_
  refine m_calli (As := [.int (zi v1)]) C fy_MM_isNet rfl wd_883 (pc := 2) d_MM_output_2 ⟨rfl, rfl, Nat.le_of_ble_eq_true rfl, Nat.le_of_ble_eq_true rfl⟩ rfl rfl (Nat.le_of_ble_eq_true rfl) h (c_MM_isNet (zln E) D g ad _ _ _) (fun r2 σ1 h => ?_)
  obtain ⟨hc3, h⟩ := h
  refine z_if_ne (tgt := 10) C (pc := 5) d_MM_output_5 (by decide) hc3 h (fun h => ?_) (fun h => ?_)
  · refine z_aload_n C (pc := 10) d_MM_output_10 0 rfl ?_
    refine m_getI C 18 118 rfl (by decide) rfl wd_722 (pc := 11) d_MM_output_11 ?_
    refine z_iconst C (pc := 14) d_MM_output_14 ?_
    obtain ⟨hc4, h⟩ := h
    refine z_icmp_lt (tgt := 21) C (pc := 15) d_MM_output_15 (by decide) hc4 (by decide) h (fun h => ?_) (fun h => ?_)
    · refine z_aload_n C (pc := 21) d_MM_output_21 0 rfl ?_
      refine m_getA C 19 (by decide) rfl wd_723 (pc := 22) d_MM_output_22 ?_
      refine z_aload_n C (pc := 25) d_MM_output_25 0 rfl ?_
      refine m_getI C 18 118 rfl (by decide) rfl wd_722 (pc := 26) d_MM_output_26 ?_
      refine z_iload_n C (pc := 29) d_MM_output_29 1 rfl ?_
      obtain ⟨hc5, hc6, h⟩ := h
      refine m_iast C 19 119 4 rfl rfl (by decide) hc5 hc6 (pc := 30) d_MM_output_30 ?_
      refine zN h (fun σ7 eσ7 h => ?_)
      refine z_aload_n C (pc := 31) d_MM_output_31 0 rfl ?_
      refine z_dup C (pc := 32) d_MM_output_32 rfl ?_
      refine m_getI C 18 118 rfl (by decide) rfl wd_722 (pc := 33) d_MM_output_33 ?_
      refine z_iconst C (pc := 36) d_MM_output_36 ?_
      refine z_iadd C (pc := 37) d_MM_output_37 ?_
      refine m_putI C 18 118 rfl (by decide) rfl wd_722 ⟨rfl, rfl⟩ (pc := 38) d_MM_output_38 ?_
      refine zN h (fun σ8 eσ8 h => ?_)
      refine z_aload_n C (pc := 41) d_MM_output_41 0 rfl ?_
      refine m_callv (As := []) C fy_MM_changed rfl wd_871 (pc := 42) d_MM_output_42 ⟨rfl, rfl, Nat.le_of_ble_eq_true rfl, Nat.le_of_ble_eq_true rfl⟩ rfl rfl (Nat.le_of_ble_eq_true rfl) h (c_MM_changed (zln E) D g ad _ _) (fun σ9 h => ?_)
      refine z_aload_n C (pc := 45) d_MM_output_45 0 rfl ?_
      refine m_getI C 18 118 rfl (by decide) rfl wd_722 (pc := 46) d_MM_output_46 ?_
      refine z_iconst C (pc := 49) d_MM_output_49 ?_
      refine z_isub C (pc := 50) d_MM_output_50 ?_
      exact z_iret C R (pc := 51) d_MM_output_51 h
    · refine z_bipush C (pc := 18) d_MM_output_18 (by decide) ?_
      exact z_iret C R (pc := 20) d_MM_output_20 h
  · refine z_iconst C (pc := 8) d_MM_output_8 ?_
    exact z_iret C R (pc := 9) d_MM_output_9 h
theorem d_MM_isPattern_0 : decode b_MM_isPattern 0 = .ok (.iconst 1, 1) := by decide +kernel
theorem d_MM_isPattern_1 : decode b_MM_isPattern 1 = .ok (.istore_n 1, 1) := by decide +kernel
theorem d_MM_isPattern_2 : decode b_MM_isPattern 2 = .ok (.iconst 0, 1) := by decide +kernel
theorem d_MM_isPattern_3 : decode b_MM_isPattern 3 = .ok (.istore_n 2, 1) := by decide +kernel
theorem d_MM_isPattern_4 : decode b_MM_isPattern 4 = .ok (.iload_n 0, 1) := by decide +kernel
theorem d_MM_isPattern_5 : decode b_MM_isPattern 5 = .ok (.ifCond .le 10, 3) := by decide +kernel
theorem d_MM_isPattern_8 : decode b_MM_isPattern 8 = .ok (.iload_n 0, 1) := by decide +kernel
theorem d_MM_isPattern_9 : decode b_MM_isPattern 9 = .ok (.iconst 3, 1) := by decide +kernel
theorem d_MM_isPattern_10 : decode b_MM_isPattern 10 = .ok (.iand, 1) := by decide +kernel
theorem d_MM_isPattern_11 : decode b_MM_isPattern 11 = .ok (.iconst 1, 1) := by decide +kernel
theorem d_MM_isPattern_12 : decode b_MM_isPattern 12 = .ok (.if_icmp .ne 5, 3) := by decide +kernel
theorem d_MM_isPattern_15 : decode b_MM_isPattern 15 = .ok (.iconst 0, 1) := by decide +kernel
theorem d_MM_isPattern_16 : decode b_MM_isPattern 16 = .ok (.ireturn, 1) := by decide +kernel
theorem d_MM_isPattern_17 : decode b_MM_isPattern 17 = .ok (.iload_n 0, 1) := by decide +kernel
theorem d_MM_isPattern_18 : decode b_MM_isPattern 18 = .ok (.istore_n 3, 1) := by decide +kernel
theorem d_MM_isPattern_19 : decode b_MM_isPattern 19 = .ok (.iload_n 3, 1) := by decide +kernel
theorem d_MM_isPattern_20 : decode b_MM_isPattern 20 = .ok (.ifCond .eq 33, 3) := by decide +kernel
theorem d_MM_isPattern_23 : decode b_MM_isPattern 23 = .ok (.iload_n 3, 1) := by decide +kernel
theorem d_MM_isPattern_24 : decode b_MM_isPattern 24 = .ok (.iconst 3, 1) := by decide +kernel
theorem d_MM_isPattern_25 : decode b_MM_isPattern 25 = .ok (.iand, 1) := by decide +kernel
theorem d_MM_isPattern_26 : decode b_MM_isPattern 26 = .ok (.ifCond .eq 7, 3) := by decide +kernel
theorem d_MM_isPattern_29 : decode b_MM_isPattern 29 = .ok (.iload_n 1, 1) := by decide +kernel
theorem d_MM_isPattern_30 : decode b_MM_isPattern 30 = .ok (.ifCond .ne 5, 3) := by decide +kernel
theorem d_MM_isPattern_33 : decode b_MM_isPattern 33 = .ok (.iconst 0, 1) := by decide +kernel
theorem d_MM_isPattern_34 : decode b_MM_isPattern 34 = .ok (.ireturn, 1) := by decide +kernel
theorem d_MM_isPattern_35 : decode b_MM_isPattern 35 = .ok (.iload_n 1, 1) := by decide +kernel
theorem d_MM_isPattern_36 : decode b_MM_isPattern 36 = .ok (.iload_n 3, 1) := by decide +kernel
theorem d_MM_isPattern_37 : decode b_MM_isPattern 37 = .ok (.iconst 3, 1) := by decide +kernel
theorem d_MM_isPattern_38 : decode b_MM_isPattern 38 = .ok (.iand, 1) := by decide +kernel
theorem d_MM_isPattern_39 : decode b_MM_isPattern 39 = .ok (.iadd, 1) := by decide +kernel
theorem d_MM_isPattern_40 : decode b_MM_isPattern 40 = .ok (.iconst 2, 1) := by decide +kernel
theorem d_MM_isPattern_41 : decode b_MM_isPattern 41 = .ok (.isub, 1) := by decide +kernel
theorem d_MM_isPattern_42 : decode b_MM_isPattern 42 = .ok (.istore_n 1, 1) := by decide +kernel
theorem d_MM_isPattern_43 : decode b_MM_isPattern 43 = .ok (.iinc 2 1, 3) := by decide +kernel
theorem d_MM_isPattern_46 : decode b_MM_isPattern 46 = .ok (.iload_n 3, 1) := by decide +kernel
theorem d_MM_isPattern_47 : decode b_MM_isPattern 47 = .ok (.iconst 2, 1) := by decide +kernel
theorem d_MM_isPattern_48 : decode b_MM_isPattern 48 = .ok (.ishr, 1) := by decide +kernel
theorem d_MM_isPattern_49 : decode b_MM_isPattern 49 = .ok (.istore_n 3, 1) := by decide +kernel
theorem d_MM_isPattern_50 : decode b_MM_isPattern 50 = .ok (.goto (-31), 3) := by decide +kernel
theorem d_MM_isPattern_53 : decode b_MM_isPattern 53 = .ok (.iload_n 1, 1) := by decide +kernel
theorem d_MM_isPattern_54 : decode b_MM_isPattern 54 = .ok (.ifCond .ne 13, 3) := by decide +kernel
theorem d_MM_isPattern_57 : decode b_MM_isPattern 57 = .ok (.iload_n 2, 1) := by decide +kernel
theorem d_MM_isPattern_58 : decode b_MM_isPattern 58 = .ok (.bipush 7, 2) := by decide +kernel
theorem d_MM_isPattern_60 : decode b_MM_isPattern 60 = .ok (.if_icmp .gt 7, 3) := by decide +kernel
theorem d_MM_isPattern_63 : decode b_MM_isPattern 63 = .ok (.iconst 1, 1) := by decide +kernel
theorem d_MM_isPattern_64 : decode b_MM_isPattern 64 = .ok (.goto 4, 3) := by decide +kernel
theorem d_MM_isPattern_67 : decode b_MM_isPattern 67 = .ok (.iconst 0, 1) := by decide +kernel
theorem d_MM_isPattern_68 : decode b_MM_isPattern 68 = .ok (.ireturn, 1) := by decide +kernel
def lp_MM_isPattern_19 (Q : Int → zS → Prop) : Nat → Int → Int → Int → zS → Prop
  | 0 => fun _ _ _ _ => False
  | n + 1 => fun v1 v2 v3 σ =>
    zc v3 ∧ ((v3 = 0 →
      zc v1 ∧ ((v1 = 0 →
        zc v2 ∧ ((7 < v2 →
          Q 0 σ) ∧
         (¬ 7 < v2 →
          Q 1 σ))) ∧
       (¬ v1 = 0 →
        Q 0 σ))) ∧
     (¬ v3 = 0 →
      ((zand v3 3 = 0 →
        Q 0 σ) ∧
       (¬ zand v3 3 = 0 →
        zc v1 ∧ ((v1 = 0 →
          Q 0 σ) ∧
         (¬ v1 = 0 →
          ∀ y6, y6 = (v1 + (zand v3 3)) - 2 →
          ∀ y7, y7 = zshr v3 2 →
          lp_MM_isPattern_19 Q n y6 (v2 + 1) y7 σ))))))
def wp_MM_isPattern (Q : Int → zS → Prop) (v0 : Int) (σ : zS) : Prop :=
  zc v0 ∧ ((v0 ≤ 0 →
    Q 0 σ) ∧
   (¬ v0 ≤ 0 →
    ((zand v0 3 = 1 →
      Q 0 σ) ∧
     (¬ zand v0 3 = 1 →
      ∃ u19, lp_MM_isPattern_19 Q u19 1 0 v0 σ))))
set_option maxHeartbeats 4000000 in
set_option maxRecDepth 100000 in
theorem wk_MM_isPattern_19 {E : zE} {D : va_G} {g : zG} {A : Nat → Prop} {ad : zA} {Q : Int → zS → Prop} (C : zX E b_MM_isPattern R_MM D g { frames := 0, cells := 0, slots := 0, locals := 0 } 4) (R : zRt E (some .boolean) (zQi D g ad Q A) 0 0 A) : ∀ (n : Nat) (v1 : Int) (v2 : Int) (v3 : Int) (σ : zS), lp_MM_isPattern_19 Q n v1 v2 v3 σ → zW E (zOK D A (zst E) g ad) 0 0 19 [(1, .int (zi v1)), (2, .int (zi v2)), (3, .int (zi v3))] [] σ := by
  intro n
  induction n with
  | zero =>
    intro v1 v2 v3 σ h
    exact h.elim
  | succ n ih =>
    intro v1 v2 v3 σ h
    refine z_iload_n C (pc := 19) d_MM_isPattern_19 2 rfl ?_
    obtain ⟨hc2, h⟩ := h
    refine z_if_eq (tgt := 53) C (pc := 20) d_MM_isPattern_20 (by decide) hc2 h (fun h => ?_) (fun h => ?_)
    · refine z_iload_n C (pc := 53) d_MM_isPattern_53 0 rfl ?_
      obtain ⟨hc3, h⟩ := h
      refine z_if_ne (tgt := 67) C (pc := 54) d_MM_isPattern_54 (by decide) hc3 h (fun h => ?_) (fun h => ?_)
      · refine z_iconst C (pc := 67) d_MM_isPattern_67 ?_
        exact z_zret C R (pc := 68) d_MM_isPattern_68 (by decide) h
      · refine z_iload_n C (pc := 57) d_MM_isPattern_57 1 rfl ?_
        refine z_bipush C (pc := 58) d_MM_isPattern_58 (by decide) ?_
        obtain ⟨hc4, h⟩ := h
        refine z_icmp_gt (tgt := 67) C (pc := 60) d_MM_isPattern_60 (by decide) hc4 (by decide) h (fun h => ?_) (fun h => ?_)
        · refine z_iconst C (pc := 67) d_MM_isPattern_67 ?_
          exact z_zret C R (pc := 68) d_MM_isPattern_68 (by decide) h
        · refine z_iconst C (pc := 63) d_MM_isPattern_63 ?_
          refine z_goto (tgt := 68) C (pc := 64) d_MM_isPattern_64 (by decide) ?_
          exact z_zret C R (pc := 68) d_MM_isPattern_68 (by decide) h
    · refine z_iload_n C (pc := 23) d_MM_isPattern_23 2 rfl ?_
      refine z_iconst C (pc := 24) d_MM_isPattern_24 ?_
      refine z_iand C (pc := 25) d_MM_isPattern_25 ?_
      refine z_if_eq (tgt := 33) C (pc := 26) d_MM_isPattern_26 (by decide) (zc_and _ _) h (fun h => ?_) (fun h => ?_)
      · refine z_iconst C (pc := 33) d_MM_isPattern_33 ?_
        exact z_zret C R (pc := 34) d_MM_isPattern_34 (by decide) h
      · refine z_iload_n C (pc := 29) d_MM_isPattern_29 0 rfl ?_
        obtain ⟨hc5, h⟩ := h
        refine z_if_ne (tgt := 35) C (pc := 30) d_MM_isPattern_30 (by decide) hc5 h (fun h => ?_) (fun h => ?_)
        · refine z_iload_n C (pc := 35) d_MM_isPattern_35 0 rfl ?_
          refine z_iload_n C (pc := 36) d_MM_isPattern_36 2 rfl ?_
          refine z_iconst C (pc := 37) d_MM_isPattern_37 ?_
          refine z_iand C (pc := 38) d_MM_isPattern_38 ?_
          refine z_iadd C (pc := 39) d_MM_isPattern_39 ?_
          refine z_iconst C (pc := 40) d_MM_isPattern_40 ?_
          refine z_isub C (pc := 41) d_MM_isPattern_41 ?_
          refine zNi h (fun y6 ey6 h => ?_)
          refine z_istore_n (L' := [(1, .int (zi y6)), (2, .int (zi v2)), (3, .int (zi v3))]) C (pc := 42) d_MM_isPattern_42 (by decide) rfl ?_
          refine z_iinc (L' := [(2, .int (zi (v2 + 1))), (1, .int (zi y6)), (3, .int (zi v3))]) C (pc := 43) d_MM_isPattern_43 1 rfl (by decide) rfl ?_
          refine z_iload_n C (pc := 46) d_MM_isPattern_46 2 rfl ?_
          refine z_iconst C (pc := 47) d_MM_isPattern_47 ?_
          refine z_ishr C (pc := 48) d_MM_isPattern_48 ?_
          refine zNi h (fun y7 ey7 h => ?_)
          refine z_istore_n (L' := [(3, .int (zi y7)), (2, .int (zi (v2 + 1))), (1, .int (zi y6))]) C (pc := 49) d_MM_isPattern_49 (by decide) rfl ?_
          refine z_goto (tgt := 19) C (pc := 50) d_MM_isPattern_50 (by decide) ?_
          refine z_sub [2, 1, 0] rfl ?_
          exact ih _ _ _ _ h
        · refine z_iconst C (pc := 33) d_MM_isPattern_33 ?_
          exact z_zret C R (pc := 34) d_MM_isPattern_34 (by decide) h
set_option maxHeartbeats 4000000 in
set_option maxRecDepth 100000 in
theorem c_MM_isPattern (l : Launch) (D : va_G) (g : zG) (ad : zA) (v0 : Int) (Q : Int → zS → Prop) (σ : zS) (h : wp_MM_isPattern Q v0 σ) : zMi l y_MM_isPattern b_MM_isPattern 4 (some .boolean) { frames := 0, cells := 0, slots := 0, locals := 0 } D g ad σ [.int (zi v0)] Q := by
  unfold wp_MM_isPattern at h
  refine zM_of (by decide) (Nat.le_of_ble_eq_true rfl) (fun E C R hl => ?_)
  have C : zX E b_MM_isPattern R_MM D g { frames := 0, cells := 0, slots := 0, locals := 0 } 4 := C
  refine z_sub (L' := [(0, .int (zi v0))]) [0] rfl ?_
  refine z_iconst C (pc := 0) d_MM_isPattern_0 ?_
  refine z_istore_n (L' := [(1, .int (zi 1)), (0, .int (zi v0))]) C (pc := 1) d_MM_isPattern_1 (by decide) rfl ?_
  refine z_iconst C (pc := 2) d_MM_isPattern_2 ?_
  refine z_istore_n (L' := [(2, .int (zi 0)), (1, .int (zi 1)), (0, .int (zi v0))]) C (pc := 3) d_MM_isPattern_3 (by decide) rfl ?_
  refine z_iload_n C (pc := 4) d_MM_isPattern_4 2 rfl ?_
  obtain ⟨hc1, h⟩ := h
  refine z_if_le (tgt := 15) C (pc := 5) d_MM_isPattern_5 (by decide) hc1 h (fun h => ?_) (fun h => ?_)
  · refine z_iconst C (pc := 15) d_MM_isPattern_15 ?_
    exact z_zret C R (pc := 16) d_MM_isPattern_16 (by decide) h
  · refine z_iload_n C (pc := 8) d_MM_isPattern_8 2 rfl ?_
    refine z_iconst C (pc := 9) d_MM_isPattern_9 ?_
    refine z_iand C (pc := 10) d_MM_isPattern_10 ?_
    refine z_iconst C (pc := 11) d_MM_isPattern_11 ?_
    refine z_icmp_ne (tgt := 17) C (pc := 12) d_MM_isPattern_12 (by decide) (zc_and _ _) (by decide) h (fun h => ?_) (fun h => ?_)
    · refine z_iload_n C (pc := 17) d_MM_isPattern_17 2 rfl ?_
      refine z_istore_n (L' := [(3, .int (zi v0)), (2, .int (zi 0)), (1, .int (zi 1)), (0, .int (zi v0))]) C (pc := 18) d_MM_isPattern_18 (by decide) rfl ?_
      refine z_sub [2, 1, 0] rfl ?_
      obtain ⟨n8, h⟩ := h
      exact wk_MM_isPattern_19 C R n8 _ _ _ _ h
    · refine z_iconst C (pc := 15) d_MM_isPattern_15 ?_
      exact z_zret C R (pc := 16) d_MM_isPattern_16 (by decide) h
theorem d_MM_cell_0 : decode b_MM_cell 0 = .ok (.iload_n 1, 1) := by decide +kernel
theorem d_MM_cell_1 : decode b_MM_cell 1 = .ok (.invokestatic 197, 3) := by decide +kernel
theorem d_MM_cell_4 : decode b_MM_cell 4 = .ok (.ifCond .eq 26, 3) := by decide +kernel
theorem d_MM_cell_7 : decode b_MM_cell 7 = .ok (.iload_n 2, 1) := by decide +kernel
theorem d_MM_cell_8 : decode b_MM_cell 8 = .ok (.iconst 1, 1) := by decide +kernel
theorem d_MM_cell_9 : decode b_MM_cell 9 = .ok (.if_icmp .lt 21, 3) := by decide +kernel
theorem d_MM_cell_12 : decode b_MM_cell 12 = .ok (.iload_n 2, 1) := by decide +kernel
theorem d_MM_cell_13 : decode b_MM_cell 13 = .ok (.sipush 1000, 3) := by decide +kernel
theorem d_MM_cell_16 : decode b_MM_cell 16 = .ok (.if_icmp .gt 14, 3) := by decide +kernel
theorem d_MM_cell_19 : decode b_MM_cell 19 = .ok (.iload_n 3, 1) := by decide +kernel
theorem d_MM_cell_20 : decode b_MM_cell 20 = .ok (.ifCond .lt 10, 3) := by decide +kernel
theorem d_MM_cell_23 : decode b_MM_cell 23 = .ok (.iload_n 3, 1) := by decide +kernel
theorem d_MM_cell_24 : decode b_MM_cell 24 = .ok (.sipush 1000, 3) := by decide +kernel
theorem d_MM_cell_27 : decode b_MM_cell 27 = .ok (.if_icmp .le 5, 3) := by decide +kernel
theorem d_MM_cell_30 : decode b_MM_cell 30 = .ok (.iconst (-1), 1) := by decide +kernel
theorem d_MM_cell_31 : decode b_MM_cell 31 = .ok (.ireturn, 1) := by decide +kernel
theorem d_MM_cell_32 : decode b_MM_cell 32 = .ok (.aload_n 0, 1) := by decide +kernel
theorem d_MM_cell_33 : decode b_MM_cell 33 = .ok (.getfield 200, 3) := by decide +kernel
theorem d_MM_cell_36 : decode b_MM_cell 36 = .ok (.bipush 8, 2) := by decide +kernel
theorem d_MM_cell_38 : decode b_MM_cell 38 = .ok (.if_icmp .lt 6, 3) := by decide +kernel
theorem d_MM_cell_41 : decode b_MM_cell 41 = .ok (.bipush (-2), 2) := by decide +kernel
theorem d_MM_cell_43 : decode b_MM_cell 43 = .ok (.ireturn, 1) := by decide +kernel
theorem d_MM_cell_44 : decode b_MM_cell 44 = .ok (.aload_n 0, 1) := by decide +kernel
theorem d_MM_cell_45 : decode b_MM_cell 45 = .ok (.getfield 55, 3) := by decide +kernel
theorem d_MM_cell_48 : decode b_MM_cell 48 = .ok (.aload_n 0, 1) := by decide +kernel
theorem d_MM_cell_49 : decode b_MM_cell 49 = .ok (.getfield 200, 3) := by decide +kernel
theorem d_MM_cell_52 : decode b_MM_cell 52 = .ok (.iload_n 1, 1) := by decide +kernel
theorem d_MM_cell_53 : decode b_MM_cell 53 = .ok (.iastore, 1) := by decide +kernel
theorem d_MM_cell_54 : decode b_MM_cell 54 = .ok (.aload_n 0, 1) := by decide +kernel
theorem d_MM_cell_55 : decode b_MM_cell 55 = .ok (.getfield 58, 3) := by decide +kernel
theorem d_MM_cell_58 : decode b_MM_cell 58 = .ok (.aload_n 0, 1) := by decide +kernel
theorem d_MM_cell_59 : decode b_MM_cell 59 = .ok (.getfield 200, 3) := by decide +kernel
theorem d_MM_cell_62 : decode b_MM_cell 62 = .ok (.iload_n 2, 1) := by decide +kernel
theorem d_MM_cell_63 : decode b_MM_cell 63 = .ok (.iastore, 1) := by decide +kernel
theorem d_MM_cell_64 : decode b_MM_cell 64 = .ok (.aload_n 0, 1) := by decide +kernel
theorem d_MM_cell_65 : decode b_MM_cell 65 = .ok (.getfield 61, 3) := by decide +kernel
theorem d_MM_cell_68 : decode b_MM_cell 68 = .ok (.aload_n 0, 1) := by decide +kernel
theorem d_MM_cell_69 : decode b_MM_cell 69 = .ok (.getfield 200, 3) := by decide +kernel
theorem d_MM_cell_72 : decode b_MM_cell 72 = .ok (.iload_n 3, 1) := by decide +kernel
theorem d_MM_cell_73 : decode b_MM_cell 73 = .ok (.iastore, 1) := by decide +kernel
theorem d_MM_cell_74 : decode b_MM_cell 74 = .ok (.aload_n 0, 1) := by decide +kernel
theorem d_MM_cell_75 : decode b_MM_cell 75 = .ok (.dup, 1) := by decide +kernel
theorem d_MM_cell_76 : decode b_MM_cell 76 = .ok (.getfield 200, 3) := by decide +kernel
theorem d_MM_cell_79 : decode b_MM_cell 79 = .ok (.iconst 1, 1) := by decide +kernel
theorem d_MM_cell_80 : decode b_MM_cell 80 = .ok (.iadd, 1) := by decide +kernel
theorem d_MM_cell_81 : decode b_MM_cell 81 = .ok (.putfield 200, 3) := by decide +kernel
theorem d_MM_cell_84 : decode b_MM_cell 84 = .ok (.aload_n 0, 1) := by decide +kernel
theorem d_MM_cell_85 : decode b_MM_cell 85 = .ok (.invokevirtual 175, 3) := by decide +kernel
theorem d_MM_cell_88 : decode b_MM_cell 88 = .ok (.aload_n 0, 1) := by decide +kernel
theorem d_MM_cell_89 : decode b_MM_cell 89 = .ok (.getfield 200, 3) := by decide +kernel
theorem d_MM_cell_92 : decode b_MM_cell 92 = .ok (.iconst 1, 1) := by decide +kernel
theorem d_MM_cell_93 : decode b_MM_cell 93 = .ok (.isub, 1) := by decide +kernel
theorem d_MM_cell_94 : decode b_MM_cell 94 = .ok (.ireturn, 1) := by decide +kernel
def wp_MM_cell (Q : Int → zS → Prop) (v1 : Int) (v2 : Int) (v3 : Int) (σ : zS) : Prop :=
  wp_MM_isPattern (fun r2 σ1 =>
    zc r2 ∧ ((r2 = 0 →
      Q (-1) σ1) ∧
     (¬ r2 = 0 →
      zc v2 ∧ ((v2 < 1 →
        Q (-1) σ1) ∧
       (¬ v2 < 1 →
        ((1000 < v2 →
          Q (-1) σ1) ∧
         (¬ 1000 < v2 →
          zc v3 ∧ ((v3 < 0 →
            Q (-1) σ1) ∧
           (¬ v3 < 0 →
            ((v3 ≤ 1000 →
              zc (σ1 120 0) ∧ ((σ1 120 0 < 8 →
                0 ≤ σ1 120 0 ∧ σ1 120 0 < 8 ∧ ∀ σ9, σ9 = zup σ1 121 (σ1 120 0) v1 →
                0 ≤ σ9 120 0 ∧ σ9 120 0 < 8 ∧ ∀ σ12, σ12 = zup σ9 122 (σ9 120 0) v2 →
                0 ≤ σ12 120 0 ∧ σ12 120 0 < 8 ∧ ∀ σ15, σ15 = zup σ12 123 (σ12 120 0) v3 →
                ∀ σ16, σ16 = zup σ15 120 0 ((σ15 120 0) + 1) →
                wp_MM_changed (fun σ17 =>
                  Q ((σ17 120 0) - 1) σ17) σ16) ∧
               (¬ σ1 120 0 < 8 →
                Q (-2) σ1))) ∧
             (¬ v3 ≤ 1000 →
              Q (-1) σ1))))))))))) v1 σ
set_option maxHeartbeats 4000000 in
set_option maxRecDepth 100000 in
theorem c_MM_cell (l : Launch) (D : va_G) (g : zG) (ad : zA) (v1 : Int) (v2 : Int) (v3 : Int) (Q : Int → zS → Prop) (σ : zS) (h : wp_MM_cell Q v1 v2 v3 σ) : zMi l y_MM_cell b_MM_cell 4 (some .int) { frames := 1, cells := 0, slots := 0, locals := 23 } D g ad σ [.ref (ad (0, 3)), .int (zi v1), .int (zi v2), .int (zi v3)] Q := by
  unfold wp_MM_cell at h
  refine zM_of (by decide) (Nat.le_of_ble_eq_true rfl) (fun E C R hl => ?_)
  have C : zX E b_MM_cell R_MM D g { frames := 1, cells := 0, slots := 0, locals := 23 } 4 := C
  refine z_sub (L' := [(0, .ref (ad (0, 3))), (1, .int (zi v1)), (2, .int (zi v2)), (3, .int (zi v3))]) [0, 1, 2, 3] rfl ?_
  refine z_iload_n C (pc := 0) d_MM_cell_0 1 rfl ?_
  refine z_callSi (As := [.int (zi v1)]) C fs_MM_isPattern rfl wd_930 (pc := 1) d_MM_cell_1 ⟨rfl, rfl, Nat.le_of_ble_eq_true rfl, Nat.le_of_ble_eq_true rfl⟩ rfl rfl (Nat.le_of_ble_eq_true rfl) h (c_MM_isPattern (zln E) D g ad _ _ _) (fun r2 σ1 h => ?_)
  obtain ⟨hc3, h⟩ := h
  refine z_if_eq (tgt := 30) C (pc := 4) d_MM_cell_4 (by decide) hc3 h (fun h => ?_) (fun h => ?_)
  · refine z_iconst C (pc := 30) d_MM_cell_30 ?_
    exact z_iret C R (pc := 31) d_MM_cell_31 h
  · refine z_iload_n C (pc := 7) d_MM_cell_7 2 rfl ?_
    refine z_iconst C (pc := 8) d_MM_cell_8 ?_
    obtain ⟨hc4, h⟩ := h
    refine z_icmp_lt (tgt := 30) C (pc := 9) d_MM_cell_9 (by decide) hc4 (by decide) h (fun h => ?_) (fun h => ?_)
    · refine z_iconst C (pc := 30) d_MM_cell_30 ?_
      exact z_iret C R (pc := 31) d_MM_cell_31 h
    · refine z_iload_n C (pc := 12) d_MM_cell_12 2 rfl ?_
      refine z_sipush C (pc := 13) d_MM_cell_13 (by decide) ?_
      refine z_icmp_gt (tgt := 30) C (pc := 16) d_MM_cell_16 (by decide) hc4 (by decide) h (fun h => ?_) (fun h => ?_)
      · refine z_iconst C (pc := 30) d_MM_cell_30 ?_
        exact z_iret C R (pc := 31) d_MM_cell_31 h
      · refine z_iload_n C (pc := 19) d_MM_cell_19 3 rfl ?_
        obtain ⟨hc5, h⟩ := h
        refine z_if_lt (tgt := 30) C (pc := 20) d_MM_cell_20 (by decide) hc5 h (fun h => ?_) (fun h => ?_)
        · refine z_iconst C (pc := 30) d_MM_cell_30 ?_
          exact z_iret C R (pc := 31) d_MM_cell_31 h
        · refine z_iload_n C (pc := 23) d_MM_cell_23 3 rfl ?_
          refine z_sipush C (pc := 24) d_MM_cell_24 (by decide) ?_
          refine z_icmp_le (tgt := 32) C (pc := 27) d_MM_cell_27 (by decide) hc5 (by decide) h (fun h => ?_) (fun h => ?_)
          · refine z_aload_n C (pc := 32) d_MM_cell_32 0 rfl ?_
            refine m_getI C 20 120 rfl (by decide) rfl wd_724 (pc := 33) d_MM_cell_33 ?_
            refine z_bipush C (pc := 36) d_MM_cell_36 (by decide) ?_
            obtain ⟨hc6, h⟩ := h
            refine z_icmp_lt (tgt := 44) C (pc := 38) d_MM_cell_38 (by decide) hc6 (by decide) h (fun h => ?_) (fun h => ?_)
            · refine z_aload_n C (pc := 44) d_MM_cell_44 0 rfl ?_
              refine m_getA C 21 (by decide) rfl wd_725 (pc := 45) d_MM_cell_45 ?_
              refine z_aload_n C (pc := 48) d_MM_cell_48 0 rfl ?_
              refine m_getI C 20 120 rfl (by decide) rfl wd_724 (pc := 49) d_MM_cell_49 ?_
              refine z_iload_n C (pc := 52) d_MM_cell_52 1 rfl ?_
              obtain ⟨hc7, hc8, h⟩ := h
              refine m_iast C 21 121 8 rfl rfl (by decide) hc7 hc8 (pc := 53) d_MM_cell_53 ?_
              refine zN h (fun σ9 eσ9 h => ?_)
              refine z_aload_n C (pc := 54) d_MM_cell_54 0 rfl ?_
              refine m_getA C 22 (by decide) rfl wd_726 (pc := 55) d_MM_cell_55 ?_
              refine z_aload_n C (pc := 58) d_MM_cell_58 0 rfl ?_
              refine m_getI C 20 120 rfl (by decide) rfl wd_724 (pc := 59) d_MM_cell_59 ?_
              refine z_iload_n C (pc := 62) d_MM_cell_62 2 rfl ?_
              obtain ⟨hc10, hc11, h⟩ := h
              refine m_iast C 22 122 8 rfl rfl (by decide) hc10 hc11 (pc := 63) d_MM_cell_63 ?_
              refine zN h (fun σ12 eσ12 h => ?_)
              refine z_aload_n C (pc := 64) d_MM_cell_64 0 rfl ?_
              refine m_getA C 23 (by decide) rfl wd_727 (pc := 65) d_MM_cell_65 ?_
              refine z_aload_n C (pc := 68) d_MM_cell_68 0 rfl ?_
              refine m_getI C 20 120 rfl (by decide) rfl wd_724 (pc := 69) d_MM_cell_69 ?_
              refine z_iload_n C (pc := 72) d_MM_cell_72 3 rfl ?_
              obtain ⟨hc13, hc14, h⟩ := h
              refine m_iast C 23 123 8 rfl rfl (by decide) hc13 hc14 (pc := 73) d_MM_cell_73 ?_
              refine zN h (fun σ15 eσ15 h => ?_)
              refine z_aload_n C (pc := 74) d_MM_cell_74 0 rfl ?_
              refine z_dup C (pc := 75) d_MM_cell_75 rfl ?_
              refine m_getI C 20 120 rfl (by decide) rfl wd_724 (pc := 76) d_MM_cell_76 ?_
              refine z_iconst C (pc := 79) d_MM_cell_79 ?_
              refine z_iadd C (pc := 80) d_MM_cell_80 ?_
              refine m_putI C 20 120 rfl (by decide) rfl wd_724 ⟨rfl, rfl⟩ (pc := 81) d_MM_cell_81 ?_
              refine zN h (fun σ16 eσ16 h => ?_)
              refine z_aload_n C (pc := 84) d_MM_cell_84 0 rfl ?_
              refine m_callv (As := []) C fy_MM_changed rfl wd_871 (pc := 85) d_MM_cell_85 ⟨rfl, rfl, Nat.le_of_ble_eq_true rfl, Nat.le_of_ble_eq_true rfl⟩ rfl rfl (Nat.le_of_ble_eq_true rfl) h (c_MM_changed (zln E) D g ad _ _) (fun σ17 h => ?_)
              refine z_aload_n C (pc := 88) d_MM_cell_88 0 rfl ?_
              refine m_getI C 20 120 rfl (by decide) rfl wd_724 (pc := 89) d_MM_cell_89 ?_
              refine z_iconst C (pc := 92) d_MM_cell_92 ?_
              refine z_isub C (pc := 93) d_MM_cell_93 ?_
              exact z_iret C R (pc := 94) d_MM_cell_94 h
            · refine z_bipush C (pc := 41) d_MM_cell_41 (by decide) ?_
              exact z_iret C R (pc := 43) d_MM_cell_43 h
          · refine z_iconst C (pc := 30) d_MM_cell_30 ?_
            exact z_iret C R (pc := 31) d_MM_cell_31 h
theorem d_MM_nodes_0 : decode b_MM_nodes 0 = .ok (.aload_n 0, 1) := by decide +kernel
theorem d_MM_nodes_1 : decode b_MM_nodes 1 = .ok (.getfield 135, 3) := by decide +kernel
theorem d_MM_nodes_4 : decode b_MM_nodes 4 = .ok (.ireturn, 1) := by decide +kernel
def wp_MM_nodes (Q : Int → zS → Prop) (σ : zS) : Prop :=
  Q (σ 113 0) σ
set_option maxHeartbeats 4000000 in
set_option maxRecDepth 100000 in
theorem c_MM_nodes (l : Launch) (D : va_G) (g : zG) (ad : zA) (Q : Int → zS → Prop) (σ : zS) (h : wp_MM_nodes Q σ) : zMi l y_MM_nodes b_MM_nodes 1 (some .int) { frames := 0, cells := 0, slots := 0, locals := 0 } D g ad σ [.ref (ad (0, 3))] Q := by
  unfold wp_MM_nodes at h
  refine zM_of (by decide) (Nat.le_of_ble_eq_true rfl) (fun E C R hl => ?_)
  have C : zX E b_MM_nodes R_MM D g { frames := 0, cells := 0, slots := 0, locals := 0 } 1 := C
  refine z_sub (L' := [(0, .ref (ad (0, 3)))]) [0] rfl ?_
  refine z_aload_n C (pc := 0) d_MM_nodes_0 0 rfl ?_
  refine m_getI C 13 113 rfl (by decide) rfl wd_717 (pc := 1) d_MM_nodes_1 ?_
  exact z_iret C R (pc := 4) d_MM_nodes_4 h
theorem d_MM_nodeOf_0 : decode b_MM_nodeOf 0 = .ok (.aload_n 0, 1) := by decide +kernel
theorem d_MM_nodeOf_1 : decode b_MM_nodeOf 1 = .ok (.iload_n 1, 1) := by decide +kernel
theorem d_MM_nodeOf_2 : decode b_MM_nodeOf 2 = .ok (.invokevirtual 187, 3) := by decide +kernel
theorem d_MM_nodeOf_5 : decode b_MM_nodeOf 5 = .ok (.ifCond .eq 12, 3) := by decide +kernel
theorem d_MM_nodeOf_8 : decode b_MM_nodeOf 8 = .ok (.aload_n 0, 1) := by decide +kernel
theorem d_MM_nodeOf_9 : decode b_MM_nodeOf 9 = .ok (.getfield 13, 3) := by decide +kernel
theorem d_MM_nodeOf_12 : decode b_MM_nodeOf 12 = .ok (.iload_n 1, 1) := by decide +kernel
theorem d_MM_nodeOf_13 : decode b_MM_nodeOf 13 = .ok (.iaload, 1) := by decide +kernel
theorem d_MM_nodeOf_14 : decode b_MM_nodeOf 14 = .ok (.goto 4, 3) := by decide +kernel
theorem d_MM_nodeOf_17 : decode b_MM_nodeOf 17 = .ok (.iconst (-1), 1) := by decide +kernel
theorem d_MM_nodeOf_18 : decode b_MM_nodeOf 18 = .ok (.ireturn, 1) := by decide +kernel
def wp_MM_nodeOf (Q : Int → zS → Prop) (v1 : Int) (σ : zS) : Prop :=
  wp_MM_isNet (fun r2 σ1 =>
    zc r2 ∧ ((r2 = 0 →
      Q (-1) σ1) ∧
     (¬ r2 = 0 →
      0 ≤ v1 ∧ v1 < 40 ∧ 
      Q (σ1 102 v1) σ1))) v1 σ
set_option maxHeartbeats 4000000 in
set_option maxRecDepth 100000 in
theorem c_MM_nodeOf (l : Launch) (D : va_G) (g : zG) (ad : zA) (v1 : Int) (Q : Int → zS → Prop) (σ : zS) (h : wp_MM_nodeOf Q v1 σ) : zMi l y_MM_nodeOf b_MM_nodeOf 2 (some .int) { frames := 1, cells := 0, slots := 0, locals := 21 } D g ad σ [.ref (ad (0, 3)), .int (zi v1)] Q := by
  unfold wp_MM_nodeOf at h
  refine zM_of (by decide) (Nat.le_of_ble_eq_true rfl) (fun E C R hl => ?_)
  have C : zX E b_MM_nodeOf R_MM D g { frames := 1, cells := 0, slots := 0, locals := 21 } 2 := C
  refine z_sub (L' := [(0, .ref (ad (0, 3))), (1, .int (zi v1))]) [0, 1] rfl ?_
  refine z_aload_n C (pc := 0) d_MM_nodeOf_0 0 rfl ?_
  refine z_iload_n C (pc := 1) d_MM_nodeOf_1 1 rfl ?_
  refine m_calli (As := [.int (zi v1)]) C fy_MM_isNet rfl wd_883 (pc := 2) d_MM_nodeOf_2 ⟨rfl, rfl, Nat.le_of_ble_eq_true rfl, Nat.le_of_ble_eq_true rfl⟩ rfl rfl (Nat.le_of_ble_eq_true rfl) h (c_MM_isNet (zln E) D g ad _ _ _) (fun r2 σ1 h => ?_)
  obtain ⟨hc3, h⟩ := h
  refine z_if_eq (tgt := 17) C (pc := 5) d_MM_nodeOf_5 (by decide) hc3 h (fun h => ?_) (fun h => ?_)
  · refine z_iconst C (pc := 17) d_MM_nodeOf_17 ?_
    exact z_iret C R (pc := 18) d_MM_nodeOf_18 h
  · refine z_aload_n C (pc := 8) d_MM_nodeOf_8 0 rfl ?_
    refine m_getA C 2 (by decide) rfl wd_706 (pc := 9) d_MM_nodeOf_9 ?_
    refine z_iload_n C (pc := 12) d_MM_nodeOf_12 1 rfl ?_
    obtain ⟨hc4, hc5, h⟩ := h
    refine m_iald C 2 102 40 rfl rfl (by decide) hc4 hc5 (pc := 13) d_MM_nodeOf_13 ?_
    refine z_goto (tgt := 18) C (pc := 14) d_MM_nodeOf_14 (by decide) ?_
    exact z_iret C R (pc := 18) d_MM_nodeOf_18 h
theorem d_MM_part_0 : decode b_MM_part 0 = .ok (.iload_n 1, 1) := by decide +kernel
theorem d_MM_part_1 : decode b_MM_part 1 = .ok (.ifCond .lt 20, 3) := by decide +kernel
theorem d_MM_part_4 : decode b_MM_part 4 = .ok (.iload_n 1, 1) := by decide +kernel
theorem d_MM_part_5 : decode b_MM_part 5 = .ok (.aload_n 0, 1) := by decide +kernel
theorem d_MM_part_6 : decode b_MM_part 6 = .ok (.getfield 135, 3) := by decide +kernel
theorem d_MM_part_9 : decode b_MM_part 9 = .ok (.if_icmp .ge 12, 3) := by decide +kernel
theorem d_MM_part_12 : decode b_MM_part 12 = .ok (.iload_n 2, 1) := by decide +kernel
theorem d_MM_part_13 : decode b_MM_part 13 = .ok (.ifCond .lt 8, 3) := by decide +kernel
theorem d_MM_part_16 : decode b_MM_part 16 = .ok (.iload_n 2, 1) := by decide +kernel
theorem d_MM_part_17 : decode b_MM_part 17 = .ok (.iconst 1, 1) := by decide +kernel
theorem d_MM_part_18 : decode b_MM_part 18 = .ok (.if_icmp .le 5, 3) := by decide +kernel
theorem d_MM_part_21 : decode b_MM_part 21 = .ok (.iconst (-1), 1) := by decide +kernel
theorem d_MM_part_22 : decode b_MM_part 22 = .ok (.ireturn, 1) := by decide +kernel
theorem d_MM_part_23 : decode b_MM_part 23 = .ok (.iload_n 2, 1) := by decide +kernel
theorem d_MM_part_24 : decode b_MM_part 24 = .ok (.ifCond .ne 12, 3) := by decide +kernel
theorem d_MM_part_27 : decode b_MM_part 27 = .ok (.aload_n 0, 1) := by decide +kernel
theorem d_MM_part_28 : decode b_MM_part 28 = .ok (.getfield 43, 3) := by decide +kernel
theorem d_MM_part_31 : decode b_MM_part 31 = .ok (.iload_n 1, 1) := by decide +kernel
theorem d_MM_part_32 : decode b_MM_part 32 = .ok (.iaload, 1) := by decide +kernel
theorem d_MM_part_33 : decode b_MM_part 33 = .ok (.goto 9, 3) := by decide +kernel
theorem d_MM_part_36 : decode b_MM_part 36 = .ok (.aload_n 0, 1) := by decide +kernel
theorem d_MM_part_37 : decode b_MM_part 37 = .ok (.getfield 46, 3) := by decide +kernel
theorem d_MM_part_40 : decode b_MM_part 40 = .ok (.iload_n 1, 1) := by decide +kernel
theorem d_MM_part_41 : decode b_MM_part 41 = .ok (.iaload, 1) := by decide +kernel
theorem d_MM_part_42 : decode b_MM_part 42 = .ok (.ireturn, 1) := by decide +kernel
def wp_MM_part (Q : Int → zS → Prop) (v1 : Int) (v2 : Int) (σ : zS) : Prop :=
  zc v1 ∧ ((v1 < 0 →
    Q (-1) σ) ∧
   (¬ v1 < 0 →
    zc (σ 113 0) ∧ ((σ 113 0 ≤ v1 →
      Q (-1) σ) ∧
     (¬ σ 113 0 ≤ v1 →
      zc v2 ∧ ((v2 < 0 →
        Q (-1) σ) ∧
       (¬ v2 < 0 →
        ((v2 ≤ 1 →
          ((v2 = 0 →
            0 ≤ v1 ∧ v1 < 48 ∧ 
            Q (σ 115 v1) σ) ∧
           (¬ v2 = 0 →
            0 ≤ v1 ∧ v1 < 48 ∧ 
            Q (σ 116 v1) σ))) ∧
         (¬ v2 ≤ 1 →
          Q (-1) σ))))))))
set_option maxHeartbeats 4000000 in
set_option maxRecDepth 100000 in
theorem c_MM_part (l : Launch) (D : va_G) (g : zG) (ad : zA) (v1 : Int) (v2 : Int) (Q : Int → zS → Prop) (σ : zS) (h : wp_MM_part Q v1 v2 σ) : zMi l y_MM_part b_MM_part 3 (some .int) { frames := 0, cells := 0, slots := 0, locals := 0 } D g ad σ [.ref (ad (0, 3)), .int (zi v1), .int (zi v2)] Q := by
  unfold wp_MM_part at h
  refine zM_of (by decide) (Nat.le_of_ble_eq_true rfl) (fun E C R hl => ?_)
  have C : zX E b_MM_part R_MM D g { frames := 0, cells := 0, slots := 0, locals := 0 } 3 := C
  refine z_sub (L' := [(0, .ref (ad (0, 3))), (1, .int (zi v1)), (2, .int (zi v2))]) [0, 1, 2] rfl ?_
  refine z_iload_n C (pc := 0) d_MM_part_0 1 rfl ?_
  obtain ⟨hc1, h⟩ := h
  refine z_if_lt (tgt := 21) C (pc := 1) d_MM_part_1 (by decide) hc1 h (fun h => ?_) (fun h => ?_)
  · refine z_iconst C (pc := 21) d_MM_part_21 ?_
    exact z_iret C R (pc := 22) d_MM_part_22 h
  · refine z_iload_n C (pc := 4) d_MM_part_4 1 rfl ?_
    refine z_aload_n C (pc := 5) d_MM_part_5 0 rfl ?_
    refine m_getI C 13 113 rfl (by decide) rfl wd_717 (pc := 6) d_MM_part_6 ?_
    obtain ⟨hc2, h⟩ := h
    refine z_icmp_ge (tgt := 21) C (pc := 9) d_MM_part_9 (by decide) hc1 hc2 h (fun h => ?_) (fun h => ?_)
    · refine z_iconst C (pc := 21) d_MM_part_21 ?_
      exact z_iret C R (pc := 22) d_MM_part_22 h
    · refine z_iload_n C (pc := 12) d_MM_part_12 2 rfl ?_
      obtain ⟨hc3, h⟩ := h
      refine z_if_lt (tgt := 21) C (pc := 13) d_MM_part_13 (by decide) hc3 h (fun h => ?_) (fun h => ?_)
      · refine z_iconst C (pc := 21) d_MM_part_21 ?_
        exact z_iret C R (pc := 22) d_MM_part_22 h
      · refine z_iload_n C (pc := 16) d_MM_part_16 2 rfl ?_
        refine z_iconst C (pc := 17) d_MM_part_17 ?_
        refine z_icmp_le (tgt := 23) C (pc := 18) d_MM_part_18 (by decide) hc3 (by decide) h (fun h => ?_) (fun h => ?_)
        · refine z_iload_n C (pc := 23) d_MM_part_23 2 rfl ?_
          refine z_if_ne (tgt := 36) C (pc := 24) d_MM_part_24 (by decide) hc3 h (fun h => ?_) (fun h => ?_)
          · refine z_aload_n C (pc := 36) d_MM_part_36 0 rfl ?_
            refine m_getA C 16 (by decide) rfl wd_720 (pc := 37) d_MM_part_37 ?_
            refine z_iload_n C (pc := 40) d_MM_part_40 1 rfl ?_
            obtain ⟨hc4, hc5, h⟩ := h
            refine m_iald C 16 116 48 rfl rfl (by decide) hc4 hc5 (pc := 41) d_MM_part_41 ?_
            exact z_iret C R (pc := 42) d_MM_part_42 h
          · refine z_aload_n C (pc := 27) d_MM_part_27 0 rfl ?_
            refine m_getA C 15 (by decide) rfl wd_719 (pc := 28) d_MM_part_28 ?_
            refine z_iload_n C (pc := 31) d_MM_part_31 1 rfl ?_
            obtain ⟨hc6, hc7, h⟩ := h
            refine m_iald C 15 115 48 rfl rfl (by decide) hc6 hc7 (pc := 32) d_MM_part_32 ?_
            refine z_goto (tgt := 42) C (pc := 33) d_MM_part_33 (by decide) ?_
            exact z_iret C R (pc := 42) d_MM_part_42 h
        · refine z_iconst C (pc := 21) d_MM_part_21 ?_
          exact z_iret C R (pc := 22) d_MM_part_22 h
theorem d_MM_logic_0 : decode b_MM_logic 0 = .ok (.aload_n 0, 1) := by decide +kernel
theorem d_MM_logic_1 : decode b_MM_logic 1 = .ok (.getfield 40, 3) := by decide +kernel
theorem d_MM_logic_4 : decode b_MM_logic 4 = .ok (.iload_n 1, 1) := by decide +kernel
theorem d_MM_logic_5 : decode b_MM_logic 5 = .ok (.iaload, 1) := by decide +kernel
theorem d_MM_logic_6 : decode b_MM_logic 6 = .ok (.iconst 2, 1) := by decide +kernel
theorem d_MM_logic_7 : decode b_MM_logic 7 = .ok (.if_icmp .lt 7, 3) := by decide +kernel
theorem d_MM_logic_10 : decode b_MM_logic 10 = .ok (.iconst 1, 1) := by decide +kernel
theorem d_MM_logic_11 : decode b_MM_logic 11 = .ok (.goto 4, 3) := by decide +kernel
theorem d_MM_logic_14 : decode b_MM_logic 14 = .ok (.iconst 0, 1) := by decide +kernel
theorem d_MM_logic_15 : decode b_MM_logic 15 = .ok (.ireturn, 1) := by decide +kernel
def wp_MM_logic (Q : Int → zS → Prop) (v1 : Int) (σ : zS) : Prop :=
  0 ≤ v1 ∧ v1 < 48 ∧ 
  zc (σ 114 v1) ∧ ((σ 114 v1 < 2 →
    Q 0 σ) ∧
   (¬ σ 114 v1 < 2 →
    Q 1 σ))
set_option maxHeartbeats 4000000 in
set_option maxRecDepth 100000 in
theorem c_MM_logic (l : Launch) (D : va_G) (g : zG) (ad : zA) (v1 : Int) (Q : Int → zS → Prop) (σ : zS) (h : wp_MM_logic Q v1 σ) : zMi l y_MM_logic b_MM_logic 2 (some .boolean) { frames := 0, cells := 0, slots := 0, locals := 0 } D g ad σ [.ref (ad (0, 3)), .int (zi v1)] Q := by
  unfold wp_MM_logic at h
  refine zM_of (by decide) (Nat.le_of_ble_eq_true rfl) (fun E C R hl => ?_)
  have C : zX E b_MM_logic R_MM D g { frames := 0, cells := 0, slots := 0, locals := 0 } 2 := C
  refine z_sub (L' := [(0, .ref (ad (0, 3))), (1, .int (zi v1))]) [0, 1] rfl ?_
  refine z_aload_n C (pc := 0) d_MM_logic_0 0 rfl ?_
  refine m_getA C 14 (by decide) rfl wd_718 (pc := 1) d_MM_logic_1 ?_
  refine z_iload_n C (pc := 4) d_MM_logic_4 1 rfl ?_
  obtain ⟨hc1, hc2, h⟩ := h
  refine m_iald C 14 114 48 rfl rfl (by decide) hc1 hc2 (pc := 5) d_MM_logic_5 ?_
  refine z_iconst C (pc := 6) d_MM_logic_6 ?_
  obtain ⟨hc3, h⟩ := h
  refine z_icmp_lt (tgt := 14) C (pc := 7) d_MM_logic_7 (by decide) hc3 (by decide) h (fun h => ?_) (fun h => ?_)
  · refine z_iconst C (pc := 14) d_MM_logic_14 ?_
    exact z_zret C R (pc := 15) d_MM_logic_15 (by decide) h
  · refine z_iconst C (pc := 10) d_MM_logic_10 ?_
    refine z_goto (tgt := 15) C (pc := 11) d_MM_logic_11 (by decide) ?_
    exact z_zret C R (pc := 15) d_MM_logic_15 (by decide) h
