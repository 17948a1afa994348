theorem d_AS_newLength_0 : decode b_AS_newLength 0 = .ok (.iload_n 0, 1) := by decide +kernel
theorem d_AS_newLength_1 : decode b_AS_newLength 1 = .ok (.iload_n 1, 1) := by decide +kernel
theorem d_AS_newLength_2 : decode b_AS_newLength 2 = .ok (.iload_n 2, 1) := by decide +kernel
theorem d_AS_newLength_3 : decode b_AS_newLength 3 = .ok (.invokestatic 194, 3) := by decide +kernel
theorem d_AS_newLength_6 : decode b_AS_newLength 6 = .ok (.iadd, 1) := by decide +kernel
theorem d_AS_newLength_7 : decode b_AS_newLength 7 = .ok (.istore_n 3, 1) := by decide +kernel
theorem d_AS_newLength_8 : decode b_AS_newLength 8 = .ok (.iconst 0, 1) := by decide +kernel
theorem d_AS_newLength_9 : decode b_AS_newLength 9 = .ok (.iload_n 3, 1) := by decide +kernel
theorem d_AS_newLength_10 : decode b_AS_newLength 10 = .ok (.if_icmp .ge 11, 3) := by decide +kernel
theorem d_AS_newLength_13 : decode b_AS_newLength 13 = .ok (.iload_n 3, 1) := by decide +kernel
theorem d_AS_newLength_14 : decode b_AS_newLength 14 = .ok (.ldc 200, 2) := by decide +kernel
theorem d_AS_newLength_16 : decode b_AS_newLength 16 = .ok (.if_icmp .gt 5, 3) := by decide +kernel
theorem d_AS_newLength_19 : decode b_AS_newLength 19 = .ok (.iload_n 3, 1) := by decide +kernel
theorem d_AS_newLength_20 : decode b_AS_newLength 20 = .ok (.ireturn, 1) := by decide +kernel
theorem d_AR_copyOf2_0 : decode b_AR_copyOf2 0 = .ok (.aload_n 0, 1) := by decide +kernel
theorem d_AR_copyOf2_1 : decode b_AR_copyOf2 1 = .ok (.iload_n 1, 1) := by decide +kernel
theorem d_AR_copyOf2_2 : decode b_AR_copyOf2 2 = .ok (.aload_n 0, 1) := by decide +kernel
theorem d_AR_copyOf2_3 : decode b_AR_copyOf2 3 = .ok (.invokevirtual 86, 3) := by decide +kernel
theorem d_AR_copyOf2_6 : decode b_AR_copyOf2 6 = .ok (.invokestatic 300, 3) := by decide +kernel
theorem d_AR_copyOf2_9 : decode b_AR_copyOf2 9 = .ok (.areturn, 1) := by decide +kernel
theorem d_AR_copyOf3_0 : decode b_AR_copyOf3 0 = .ok (.aload_n 2, 1) := by decide +kernel
theorem d_AR_copyOf3_1 : decode b_AR_copyOf3 1 = .ok (.ldc 110, 2) := by decide +kernel
theorem d_AR_copyOf3_3 : decode b_AR_copyOf3 3 = .ok (.if_acmp .ne 10, 3) := by decide +kernel
theorem d_AR_copyOf3_6 : decode b_AR_copyOf3 6 = .ok (.iload_n 1, 1) := by decide +kernel
theorem d_AR_copyOf3_7 : decode b_AR_copyOf3 7 = .ok (.anewarray 2, 3) := by decide +kernel
theorem d_AR_copyOf3_10 : decode b_AR_copyOf3 10 = .ok (.goto 14, 3) := by decide +kernel
theorem d_AR_copyOf3_24 : decode b_AR_copyOf3 24 = .ok (.astore_n 3, 1) := by decide +kernel
theorem d_AR_copyOf3_25 : decode b_AR_copyOf3 25 = .ok (.aload_n 0, 1) := by decide +kernel
theorem d_AR_copyOf3_26 : decode b_AR_copyOf3 26 = .ok (.iconst 0, 1) := by decide +kernel
theorem d_AR_copyOf3_27 : decode b_AR_copyOf3 27 = .ok (.aload_n 3, 1) := by decide +kernel
theorem d_AR_copyOf3_28 : decode b_AR_copyOf3 28 = .ok (.iconst 0, 1) := by decide +kernel
theorem d_AR_copyOf3_29 : decode b_AR_copyOf3 29 = .ok (.aload_n 0, 1) := by decide +kernel
theorem d_AR_copyOf3_30 : decode b_AR_copyOf3 30 = .ok (.arraylength, 1) := by decide +kernel
theorem d_AR_copyOf3_31 : decode b_AR_copyOf3 31 = .ok (.iload_n 1, 1) := by decide +kernel
theorem d_AR_copyOf3_32 : decode b_AR_copyOf3 32 = .ok (.invokestatic 304, 3) := by decide +kernel
theorem d_AR_copyOf3_35 : decode b_AR_copyOf3 35 = .ok (.invokestatic 150, 3) := by decide +kernel
theorem d_AR_copyOf3_38 : decode b_AR_copyOf3 38 = .ok (.aload_n 3, 1) := by decide +kernel
theorem d_AR_copyOf3_39 : decode b_AR_copyOf3 39 = .ok (.areturn, 1) := by decide +kernel
theorem d_AL_grow0_0 : decode b_AL_grow0 0 = .ok (.aload_n 0, 1) := by decide +kernel
theorem d_AL_grow0_1 : decode b_AL_grow0 1 = .ok (.aload_n 0, 1) := by decide +kernel
theorem d_AL_grow0_2 : decode b_AL_grow0 2 = .ok (.getfield 48, 3) := by decide +kernel
theorem d_AL_grow0_5 : decode b_AL_grow0 5 = .ok (.iconst 1, 1) := by decide +kernel
theorem d_AL_grow0_6 : decode b_AL_grow0 6 = .ok (.iadd, 1) := by decide +kernel
theorem d_AL_grow0_7 : decode b_AL_grow0 7 = .ok (.invokevirtual 69, 3) := by decide +kernel
theorem d_AL_grow0_10 : decode b_AL_grow0 10 = .ok (.areturn, 1) := by decide +kernel
theorem d_AL_grow1_0 : decode b_AL_grow1 0 = .ok (.aload_n 0, 1) := by decide +kernel
theorem d_AL_grow1_1 : decode b_AL_grow1 1 = .ok (.getfield 9, 3) := by decide +kernel
theorem d_AL_grow1_4 : decode b_AL_grow1 4 = .ok (.arraylength, 1) := by decide +kernel
theorem d_AL_grow1_5 : decode b_AL_grow1 5 = .ok (.istore_n 2, 1) := by decide +kernel
theorem d_AL_grow1_6 : decode b_AL_grow1 6 = .ok (.iload_n 2, 1) := by decide +kernel
theorem d_AL_grow1_7 : decode b_AL_grow1 7 = .ok (.ifCond .gt 13, 3) := by decide +kernel
theorem d_AL_grow1_10 : decode b_AL_grow1 10 = .ok (.aload_n 0, 1) := by decide +kernel
theorem d_AL_grow1_11 : decode b_AL_grow1 11 = .ok (.getfield 9, 3) := by decide +kernel
theorem d_AL_grow1_14 : decode b_AL_grow1 14 = .ok (.getstatic 39, 3) := by decide +kernel
theorem d_AL_grow1_17 : decode b_AL_grow1 17 = .ok (.if_acmp .eq 28, 3) := by decide +kernel
theorem d_AL_grow1_20 : decode b_AL_grow1 20 = .ok (.iload_n 2, 1) := by decide +kernel
theorem d_AL_grow1_21 : decode b_AL_grow1 21 = .ok (.iload_n 1, 1) := by decide +kernel
theorem d_AL_grow1_22 : decode b_AL_grow1 22 = .ok (.iload_n 2, 1) := by decide +kernel
theorem d_AL_grow1_23 : decode b_AL_grow1 23 = .ok (.isub, 1) := by decide +kernel
theorem d_AL_grow1_24 : decode b_AL_grow1 24 = .ok (.iload_n 2, 1) := by decide +kernel
theorem d_AL_grow1_25 : decode b_AL_grow1 25 = .ok (.iconst 1, 1) := by decide +kernel
theorem d_AL_grow1_26 : decode b_AL_grow1 26 = .ok (.ishr, 1) := by decide +kernel
theorem d_AL_grow1_27 : decode b_AL_grow1 27 = .ok (.invokestatic 73, 3) := by decide +kernel
theorem d_AL_grow1_30 : decode b_AL_grow1 30 = .ok (.istore_n 3, 1) := by decide +kernel
theorem d_AL_grow1_31 : decode b_AL_grow1 31 = .ok (.aload_n 0, 1) := by decide +kernel
theorem d_AL_grow1_32 : decode b_AL_grow1 32 = .ok (.aload_n 0, 1) := by decide +kernel
theorem d_AL_grow1_33 : decode b_AL_grow1 33 = .ok (.getfield 9, 3) := by decide +kernel
theorem d_AL_grow1_36 : decode b_AL_grow1 36 = .ok (.iload_n 3, 1) := by decide +kernel
theorem d_AL_grow1_37 : decode b_AL_grow1 37 = .ok (.invokestatic 66, 3) := by decide +kernel
theorem d_AL_grow1_40 : decode b_AL_grow1 40 = .ok (.dup_x1, 1) := by decide +kernel
theorem d_AL_grow1_41 : decode b_AL_grow1 41 = .ok (.putfield 9, 3) := by decide +kernel
theorem d_AL_grow1_44 : decode b_AL_grow1 44 = .ok (.areturn, 1) := by decide +kernel
theorem d_AL_grow1_45 : decode b_AL_grow1 45 = .ok (.aload_n 0, 1) := by decide +kernel
theorem d_AL_grow1_46 : decode b_AL_grow1 46 = .ok (.bipush 10, 2) := by decide +kernel
theorem d_AL_grow1_48 : decode b_AL_grow1 48 = .ok (.iload_n 1, 1) := by decide +kernel
theorem d_AL_grow1_49 : decode b_AL_grow1 49 = .ok (.invokestatic 79, 3) := by decide +kernel
theorem d_AL_grow1_52 : decode b_AL_grow1 52 = .ok (.anewarray 7, 3) := by decide +kernel
theorem d_AL_grow1_55 : decode b_AL_grow1 55 = .ok (.dup_x1, 1) := by decide +kernel
theorem d_AL_grow1_56 : decode b_AL_grow1 56 = .ok (.putfield 9, 3) := by decide +kernel
theorem d_AL_grow1_59 : decode b_AL_grow1 59 = .ok (.areturn, 1) := by decide +kernel
theorem d_AL_add_0 : decode b_AL_add 0 = .ok (.aload_n 0, 1) := by decide +kernel
theorem d_AL_add_1 : decode b_AL_add 1 = .ok (.dup, 1) := by decide +kernel
theorem d_AL_add_2 : decode b_AL_add 2 = .ok (.getfield 63, 3) := by decide +kernel
theorem d_AL_add_5 : decode b_AL_add 5 = .ok (.iconst 1, 1) := by decide +kernel
theorem d_AL_add_6 : decode b_AL_add 6 = .ok (.iadd, 1) := by decide +kernel
theorem d_AL_add_7 : decode b_AL_add 7 = .ok (.putfield 63, 3) := by decide +kernel
theorem d_AL_add_10 : decode b_AL_add 10 = .ok (.aload_n 0, 1) := by decide +kernel
theorem d_AL_add_11 : decode b_AL_add 11 = .ok (.aload_n 1, 1) := by decide +kernel
theorem d_AL_add_12 : decode b_AL_add 12 = .ok (.aload_n 0, 1) := by decide +kernel
theorem d_AL_add_13 : decode b_AL_add 13 = .ok (.getfield 9, 3) := by decide +kernel
theorem d_AL_add_16 : decode b_AL_add 16 = .ok (.aload_n 0, 1) := by decide +kernel
theorem d_AL_add_17 : decode b_AL_add 17 = .ok (.getfield 48, 3) := by decide +kernel
theorem d_AL_add_20 : decode b_AL_add 20 = .ok (.invokevirtual 131, 3) := by decide +kernel
theorem d_AL_add_23 : decode b_AL_add 23 = .ok (.iconst 1, 1) := by decide +kernel
theorem d_AL_add_24 : decode b_AL_add 24 = .ok (.ireturn, 1) := by decide +kernel
theorem d_AL_add3_0 : decode b_AL_add3 0 = .ok (.iload_n 3, 1) := by decide +kernel
theorem d_AL_add3_1 : decode b_AL_add3 1 = .ok (.aload_n 2, 1) := by decide +kernel
theorem d_AL_add3_2 : decode b_AL_add3 2 = .ok (.arraylength, 1) := by decide +kernel
theorem d_AL_add3_3 : decode b_AL_add3 3 = .ok (.if_icmp .ne 8, 3) := by decide +kernel
theorem d_AL_add3_6 : decode b_AL_add3 6 = .ok (.aload_n 0, 1) := by decide +kernel
theorem d_AL_add3_7 : decode b_AL_add3 7 = .ok (.invokevirtual 129, 3) := by decide +kernel
theorem d_AL_add3_10 : decode b_AL_add3 10 = .ok (.astore_n 2, 1) := by decide +kernel
theorem d_AL_add3_11 : decode b_AL_add3 11 = .ok (.aload_n 2, 1) := by decide +kernel
theorem d_AL_add3_12 : decode b_AL_add3 12 = .ok (.iload_n 3, 1) := by decide +kernel
theorem d_AL_add3_13 : decode b_AL_add3 13 = .ok (.aload_n 1, 1) := by decide +kernel
theorem d_AL_add3_14 : decode b_AL_add3 14 = .ok (.aastore, 1) := by decide +kernel
theorem d_AL_add3_15 : decode b_AL_add3 15 = .ok (.aload_n 0, 1) := by decide +kernel
theorem d_AL_add3_16 : decode b_AL_add3 16 = .ok (.iload_n 3, 1) := by decide +kernel
theorem d_AL_add3_17 : decode b_AL_add3 17 = .ok (.iconst 1, 1) := by decide +kernel
theorem d_AL_add3_18 : decode b_AL_add3 18 = .ok (.iadd, 1) := by decide +kernel
theorem d_AL_add3_19 : decode b_AL_add3 19 = .ok (.putfield 48, 3) := by decide +kernel
theorem d_AL_add3_22 : decode b_AL_add3 22 = .ok (.return_, 1) := by decide +kernel
theorem zshr_1 {x : Int} (h : zc x) : zshr x 1 = x / 2 := by
  unfold zshr
  rw [pk_shr (zi x) (zi 1 &&& 31) 1 (by decide), zi_toInt h]
  exact Int.shiftRight_eq_div_pow x 1
def zQc (D : va_G) (g : zG) (ad : zA) (σ : zS) (l c : Nat) (A : Nat → Prop) : Array Value → State → Outcome → State → Prop := va_Qr (S := Unit) (fun _ => True) (fun _ q t => ∃ f : Nat → Option Nat, (∀ x : Nat, f x = zro ad (lst l) (σ (41 + l) x)) ∧ va_P D classes (gw (zids σ) ad (ct g ad σ) ++ [(q, arE g c f)]) t.heap ∧ va_D A (gw (zids σ) ad (ct g ad σ) ++ [(q, arE g c f)]) ∧ zD A ad σ) A
section ZLC
variable {E : zE} {k n pc : Nat} {L L' : List (Nat × Value)} {st : List Value} {σ : zS} {cc : ByteArray} {own : String} {D : va_G} {g : zG} {rm : Room} {nl mc ms : Nat} {A : Nat → Prop} {ad : zA} {OK : zS → Heap → List Loc → Prop}
theorem xe_ret {rt : FieldType} {l c q : Nat} {f : Nat → Option Nat} (C : zX E cc own D g rm nl) (R : zRt E (some rt) (zQc D g ad σ l c A) mc ms A) (hrt : (∃ n, rt = .object n) ∨ ∃ t, rt = .array t) (hf : ∀ x : Nat, f x = zro ad (lst l) (σ (41 + l) x)) (d : decode cc pc = .ok (.areturn, 1)) : zW E (zOe D A (zst E) g ad q c f) mc ms pc L [.ref q] σ := by
  obtain ⟨p, l0, e, R0, s, m, args, below, meth, c', nL, Z⟩ := E
  obtain ⟨⟨hx, hb, hml, hown, hts⟩, hK, hR, hN⟩ := C
  obtain ⟨hr, hlk, hZ⟩ := R
  intro H locs ls ho hl
  obtain ⟨hP, hD, hz, hS⟩ := ho
  subst hZ
  exact W.aret (v := .ref q) hx hb hr hrt (Or.inr ⟨q, rfl⟩) (fun t' ht hW => ⟨⟨(), q, rfl, trivial, f, hf, by rw [ht]; exact hP, hD, hz⟩, hS.F ht⟩) hS.2.2 d hlk
theorem xe_call {y : MethodName} {b : ByteArray} {ml index l c : Nat} {ret : Option FieldType} {rm2 : Room} {As st0 : List Value} {na : Nat} (C : zX E cc own D g rm nl) (S : zSt g A (zst E) (zst E).heap) (hA : ∀ q, (zst E).heap.size ≤ q → A q) (hY : zYs y b ml ret na) (hlink : Cond.methodLink own index y ∈ lw_g) (d : decode cc pc = .ok (.invokestatic index, 3)) (hR : rm2.cells = mc ∧ rm2.slots = ms ∧ rm2.frames + 1 ≤ rm.frames ∧ 8 + (ml + 11) + rm2.locals ≤ rm.locals) (hkn : k + mc ≤ rm.cells ∧ n + ms ≤ rm.slots) (hAs : As.length = na) (hs : st0 = As.reverse ++ st) (hst : (st.map fun v => v.category).sum ≤ 8)
    (hM : ∀ sz, Met (zln E) y (zws y b ml ret) rm2 (zPa D g ad σ sz As) (zQc D g ad σ l c (zAx ad σ sz)) mc ms (zAx ad σ sz)) (kk : ∀ (q : Nat) (f : Nat → Option Nat), (∀ x : Nat, f x = zro ad (lst l) (σ (41 + l) x)) → zW E (zOe D A (zst E) g ad q c f) (k + mc) (n + ms) (pc + 3) L (.ref q :: st) σ) : zW E (zOK D A (zst E) g ad) k n pc L st0 σ := by
  obtain ⟨p, l0, e, R0, s, m, args, below, meth, c', nL, Z⟩ := E
  obtain ⟨C, hK, hRm, hN⟩ := C
  subst hs
  subst hRm
  intro H locs ls ho hl
  refine va_callr (z_runAs C hK S hA (hM H.size) hY hAs hlink hR ho hl.1 hst d hkn) ho.2.2 (fun q _ h => zAx_sub hA ho h) (fun q h => zAx_sub hA ho h) (fun u ra t H1 locs1 ht hvm hw hB hz1 hk1 hS1 => ?_)
  obtain ⟨f, hf, hP1, hD1, hz⟩ := hB
  rw [ht] at hP1
  exact kk ra f hf H1 locs1 ls ⟨hP1, hD1.weaken (fun _ _ _ h => zAx_sub hA ho h), ⟨hz.1, fun t' ht' => zAx_sub hA ho (hz.2.1 t' ht'), hz.2.2⟩, hS1⟩ hl
theorem xl_tlen (C : zX E cc own D g rm nl) (S : zSt g A (zst E) (zst E).heap) (d : decode cc pc = .ok (.arraylength, 1)) (kk : zW E (zOK D A (zst E) g ad) k n (pc + 1) L (.int (zi 0) :: st) σ) : zW E (zOK D A (zst E) g ad) k n pc L (.ref g.2.1 :: st) σ := by
  obtain ⟨p, l, e, R, s, m, args, below, meth, c, nL, Z⟩ := E
  obtain ⟨⟨hx, hb, hml, hown, hts⟩, hK, hRm, hN⟩ := C
  intro H locs ls ho hl
  exact va_tlen hx hb S.2.2.1 ho.2.2 (v := zi 0) (by decide) d (kk H locs ls ho hl)
theorem xl_gets {index : Nat} (C : zX E cc own D g rm nl) (S : zSt g A (zst E) (zst E).heap) (hlink : Cond.fieldLink own index "java/util/ArrayList" "DEFAULTCAPACITY_EMPTY_ELEMENTDATA" "[Ljava/lang/Object;" ∈ lw_g) (d : decode cc pc = .ok (.getstatic index, 3))
    (kk : zW E (zOK D A (zst E) g ad) k n (pc + 3) L (.ref g.2.1 :: st) σ) : zW E (zOK D A (zst E) g ad) k n pc L st σ := by
  obtain ⟨p, l, e, R, s, m, args, below, meth, c, nL, Z⟩ := E
  obtain ⟨⟨hx, hb, hml, hown, hts⟩, hK, hR, hN⟩ := C
  intro H locs ls ho hl
  exact va_gets hx hb S.2.1 ho.2.2 hown (hts _ hlink) (fun _ h => h) d (kk H locs ls ho hl)
end ZLC
theorem c_AS_newLength (l : Launch) (D : va_G) (g : zG) (ad : zA) (a b c : Int) (Q : Int → zS → Prop) (σ : zS) (ha : 0 < a ∧ a ≤ 1000) (hb : 0 ≤ b ∧ b ≤ 1000) (hc : 0 ≤ c ∧ c ≤ 1000) (h : Q (a + (if b < c then c else b)) σ) : zGi l y_AS_newLength b_AS_newLength 4 (some .int) { frames := 1, cells := 0, slots := 0, locals := 21 } D g ad σ [.int (zi a), .int (zi b), .int (zi c)] Q := by
  refine zN_of (by decide) (Nat.le_of_ble_eq_true rfl) (fun E C R S => ?_)
  have C : zX E b_AS_newLength "jdk/internal/util/ArraysSupport" D g { frames := 1, cells := 0, slots := 0, locals := 21 } 4 := C
  refine z_sub (L' := [(0, .int (zi a)), (1, .int (zi b)), (2, .int (zi c))]) [0, 1, 2] rfl ?_
  refine z_iload_n C d_AS_newLength_0 0 rfl ?_
  refine z_iload_n C (pc := 1) d_AS_newLength_1 1 rfl ?_
  refine z_iload_n C (pc := 2) d_AS_newLength_2 2 rfl ?_
  refine x_mmax C wd_258 ⟨Nat.le_of_ble_eq_true rfl, Nat.le_of_ble_eq_true rfl, Nat.zero_le _, Nat.zero_le _⟩ (by omega) (by omega) (Nat.le_of_ble_eq_true rfl) (pc := 3) d_AS_newLength_3 ?_
  refine z_iadd C (pc := 6) d_AS_newLength_6 ?_
  generalize hv : a + (if b < c then c else b) = v at h ⊢
  have hv2 : 0 < v ∧ v ≤ 2000 := by
    rw [← hv]
    split <;> omega
  refine z_istore_n (L' := [(3, .int (zi v)), (0, .int (zi a)), (1, .int (zi b)), (2, .int (zi c))]) C (pc := 7) d_AS_newLength_7 (by decide) rfl ?_
  refine z_iconst C (pc := 8) d_AS_newLength_8 ?_
  refine z_iload_n C (pc := 9) d_AS_newLength_9 0 rfl ?_
  refine z_icmp_ge (tgt := 21) C (pc := 10) d_AS_newLength_10 (by decide) (by decide) (by omega) ⟨fun q => (show False by omega), fun q => q⟩ (fun q => q.elim) (fun _ => ?_)
  refine z_iload_n C (pc := 13) d_AS_newLength_13 0 rfl ?_
  refine z_ldc (x := 2147483639) C (pc := 14) d_AS_newLength_14 wd_261 (by decide) ?_
  refine z_icmp_gt (tgt := 21) C (pc := 16) d_AS_newLength_16 (by decide) (by omega) (by decide) ⟨fun q => (show False by omega), fun q => q⟩ (fun q => q.elim) (fun _ => ?_)
  refine z_iload_n C (pc := 19) d_AS_newLength_19 0 rfl ?_
  exact z_iret C R d_AS_newLength_20 h
set_option maxHeartbeats 4000000 in
theorem c_AR_copyOf3 (lc : Launch) (D : va_G) (g : zG) (ad : zA) (l : Nat) (hl6 : l < 6) (c : Int) (σ : zS) (hw : zWf σ) (hc : 0 < σ 47 l) (hcc : σ 47 l ≤ c) (h2 : c ≤ 100) (sz : Nat) : Met lc y_AR_copyOf3 (zws y_AR_copyOf3 b_AR_copyOf3 4 (some (.array (.object "java/lang/Object")))) { frames := 1, cells := 1, slots := 100, locals := 60 } (zPa D g ad σ sz [.ref (ad (2, l)), .int (zi c), .ref (g.1 9)]) (zQc D g ad σ l c.toNat (zAx ad σ sz)) 1 100 (zAx ad σ sz) := by
  refine zA_of (by decide) (Nat.le_of_ble_eq_true rfl) (fun E C R S hA => ?_)
  have C : zX E b_AR_copyOf3 "java/util/Arrays" D g { frames := 1, cells := 1, slots := 100, locals := 60 } 4 := C
  refine z_sub (L' := [(0, .ref (ad (2, l))), (1, .int (zi c)), (2, .ref (g.1 9))]) [0, 1, 2] rfl ?_
  refine z_aload_n C d_AR_copyOf3_0 2 rfl ?_
  refine xl_ldcM C S wd_286 (pc := 1) d_AR_copyOf3_1 ?_
  refine xl_same (tgt := 13) C (pc := 3) d_AR_copyOf3_3 (by decide) ?_
  refine z_iload_n C (pc := 6) d_AR_copyOf3_6 1 rfl ?_
  refine xl_anew C S hA wd_288 (by omega) (by omega) ⟨Nat.le_of_ble_eq_true rfl, by show 0 + c.toNat ≤ 100; omega⟩ (pc := 7) d_AR_copyOf3_7 (fun q => ?_)
  refine z_goto (tgt := 24) C (pc := 10) d_AR_copyOf3_10 (by decide) ?_
  refine z_astore_n (L' := [(3, .ref q), (0, .ref (ad (2, l))), (1, .int (zi c)), (2, .ref (g.1 9))]) C (pc := 24) d_AR_copyOf3_24 (by decide) rfl ?_
  refine z_aload_n C (pc := 25) d_AR_copyOf3_25 1 rfl ?_
  refine z_iconst C (pc := 26) d_AR_copyOf3_26 ?_
  refine z_aload_n C (pc := 27) d_AR_copyOf3_27 0 rfl ?_
  refine z_iconst C (pc := 28) d_AR_copyOf3_28 ?_
  refine z_aload_n C (pc := 29) d_AR_copyOf3_29 1 rfl ?_
  refine xe_alen C hl6 hc (by omega) (pc := 30) d_AR_copyOf3_30 ?_
  refine z_iload_n C (pc := 31) d_AR_copyOf3_31 2 rfl ?_
  refine xg_mmin C wd_289 ⟨Nat.le_of_ble_eq_true rfl, Nat.le_of_ble_eq_true rfl, Nat.le_of_ble_eq_true rfl, by show 0 + c.toNat ≤ 100; omega⟩ (by omega) (by omega) (Nat.le_of_ble_eq_true rfl) (pc := 32) d_AR_copyOf3_32 ?_
  rw [if_neg (show ¬ c < σ 47 l by omega)]
  refine xe_copy C S hw hl6 hc hcc (by omega) wd_292 ⟨Nat.le_of_ble_eq_true rfl, Nat.le_of_ble_eq_true rfl⟩ (pc := 35) d_AR_copyOf3_35 (fun f hf => ?_)
  refine z_aload_n C (pc := 38) d_AR_copyOf3_38 0 rfl ?_
  refine zW.widen (k' := 1) (n' := 100) (Nat.le_refl _) (by omega) ?_
  exact xe_ret C R (Or.inr ⟨_, rfl⟩) hf d_AR_copyOf3_39
set_option maxHeartbeats 4000000 in
theorem c_AR_copyOf2 (lc : Launch) (D : va_G) (g : zG) (ad : zA) (l : Nat) (hl6 : l < 6) (c : Int) (σ : zS) (hw : zWf σ) (hc : 0 < σ 47 l) (hcc : σ 47 l ≤ c) (h2 : c ≤ 100) (sz : Nat) : Met lc y_AR_copyOf2 (zws y_AR_copyOf2 b_AR_copyOf2 2 (some (.array (.object "java/lang/Object")))) { frames := 2, cells := 1, slots := 100, locals := 83 } (zPa D g ad σ sz [.ref (ad (2, l)), .int (zi c)]) (zQc D g ad σ l c.toNat (zAx ad σ sz)) 1 100 (zAx ad σ sz) := by
  refine zA_of (by decide) (Nat.le_of_ble_eq_true rfl) (fun E C R S hA => ?_)
  have C : zX E b_AR_copyOf2 "java/util/Arrays" D g { frames := 2, cells := 1, slots := 100, locals := 83 } 2 := C
  refine z_sub (L' := [(0, .ref (ad (2, l))), (1, .int (zi c))]) [0, 1] rfl ?_
  refine z_aload_n C d_AR_copyOf2_0 0 rfl ?_
  refine z_iload_n C (pc := 1) d_AR_copyOf2_1 1 rfl ?_
  refine z_aload_n C (pc := 2) d_AR_copyOf2_2 0 rfl ?_
  refine xl_getC C S hl6 hc wd_268 ⟨Nat.le_of_ble_eq_true rfl, Nat.le_of_ble_eq_true rfl⟩ (Nat.le_of_ble_eq_true rfl) (pc := 3) d_AR_copyOf2_3 ?_
  refine xe_call (As := [.ref (ad (2, l)), .int (zi c), .ref (g.1 9)]) C S hA fs_AR_copyOf3 wd_283 (pc := 6) d_AR_copyOf2_6 ⟨rfl, rfl, Nat.le_of_ble_eq_true rfl, Nat.le_of_ble_eq_true rfl⟩ ⟨Nat.le_of_ble_eq_true rfl, Nat.le_of_ble_eq_true rfl⟩ rfl rfl (Nat.le_of_ble_eq_true rfl) (fun sz => c_AR_copyOf3 (zln E) D g ad l hl6 c σ hw hc hcc h2 sz) (fun q f hf => ?_)
  exact xe_ret C R (Or.inr ⟨_, rfl⟩) hf d_AR_copyOf2_9
theorem zEx_ea {ad : zA} {σ : zS} {l q : Nat} {c : Int} : zEx ad σ (adup ad (2, l) q) (zup σ 47 l c) :=
  ⟨⟨by rw [zup_ne σ (l : Int) c 0 (by decide)]; exact Int.le_refl _, by rw [zup_ne σ (l : Int) c 0 (by decide)]; exact Int.le_refl _, by rw [zup_ne σ (l : Int) c 0 (by decide)]; exact Int.le_refl _⟩, fun t _ h2 => if_neg (fun h => h2 (by rw [h]))⟩
set_option maxHeartbeats 4000000 in
theorem c_AL_grow1 (lc : Launch) (D : va_G) (g : zG) (ad : zA) (l : Nat) (hl6 : l < 6) (Q : Int → zS → Prop) (σ : zS) (hw : zWf σ) (hs : σ 40 l = σ 47 l) (h60 : σ 40 l < 60) (h : ∀ c : Int, σ 40 l < c → Q l (zup σ 47 l c)) (sz : Nat) : zHr 2 lc y_AL_grow1 b_AL_grow1 4 (some (.array (.object "java/lang/Object"))) { frames := 3, cells := 1, slots := 100, locals := 104 } D g ad σ [.ref (ad (1, l)), .int (zi (σ 40 l + 1))] Q sz 1 100 := by
  refine zA_of (by decide) (Nat.le_of_ble_eq_true rfl) (fun E C R S hA => ?_)
  have C : zX E b_AL_grow1 "java/util/ArrayList" D g { frames := 3, cells := 1, slots := 100, locals := 104 } 4 := C
  refine z_sub (L' := [(0, .ref (ad (1, l))), (1, .int (zi (σ 40 l + 1)))]) [0, 1] rfl ?_
  refine z_ls (fun hls => ?_)
  obtain ⟨q1, q2, q3, q4⟩ := hls l hl6
  refine z_aload_n C d_AL_grow1_0 0 rfl ?_
  have fin : ∀ (q : Nat) (c : Int) (f : Nat → Option Nat) (pc0 : Nat) (L : List (Nat × Value)), decode b_AL_grow1 pc0 = .ok (.putfield 9, 3) → decode b_AL_grow1 (pc0 + 3) = .ok (.areturn, 1) → 0 < c → c ≤ 100 → σ 40 l < c → (∀ x : Nat, f x = zro ad (lst l) (σ (41 + l) x)) → zW E (zOe D (zAx ad σ sz) (zst E) g ad q c.toNat f) 1 100 pc0 L [.ref q, .ref (ad (1, l)), .ref q] σ := by
    intro q c f pc0 L d1 d2 hc0 hc1 hc2 hf
    refine xl_put C l hl6 hc0 (by omega) (by omega) hf wd_50 d1 ?_
    have e : (.ref q : Value) = zr (adup ad (2, l) q) 2 l := by
      rw [zr_s _ 2 (by omega), Int.toNat_natCast]
      exact congrArg Value.ref (if_pos rfl).symm
    rw [e]
    exact za_aret C R zEx_ea (Or.inr ⟨_, rfl⟩) d2 (h c hc2)
  by_cases hc : 0 < σ 47 l
  · refine x_getL (v := .ref (ad (2, l))) C l 0 hl6 (by decide) (by rw [ctL, if_pos hc]; rfl) rfl wd_50 (pc := 1) d_AL_grow1_1 ?_
    refine xl_alen C hl6 hc q3 (pc := 4) d_AL_grow1_4 ?_
    refine z_istore_n (L' := [(2, .int (zi (σ 47 l))), (0, .ref (ad (1, l))), (1, .int (zi (σ 40 l + 1)))]) C (pc := 5) d_AL_grow1_5 (by decide) rfl ?_
    refine z_iload_n C (pc := 6) d_AL_grow1_6 0 rfl ?_
    refine z_if_gt (tgt := 20) C (pc := 7) d_AL_grow1_7 (by decide) (by omega) ⟨fun q => q, fun q => (show False by omega)⟩ (fun _ => ?_) (fun q => q.elim)
    refine z_iload_n C (pc := 20) d_AL_grow1_20 0 rfl ?_
    refine z_iload_n C (pc := 21) d_AL_grow1_21 2 rfl ?_
    refine z_iload_n C (pc := 22) d_AL_grow1_22 0 rfl ?_
    refine z_isub C (pc := 23) d_AL_grow1_23 ?_
    refine z_iload_n C (pc := 24) d_AL_grow1_24 0 rfl ?_
    refine z_iconst C (pc := 25) d_AL_grow1_25 ?_
    refine z_ishr C (pc := 26) d_AL_grow1_26 ?_
    rw [zshr_1 (by omega)]
    refine x_callSi (As := [.int (zi (σ 47 l)), .int (zi (σ 40 l + 1 - σ 47 l)), .int (zi (σ 47 l / 2))]) (Q := fun r τ => τ = σ ∧ σ 47 l + 1 ≤ r ∧ r ≤ 100) (P := True) C S fs_AS_newLength wd_255 (pc := 27) d_AL_grow1_27 ⟨rfl, rfl, Nat.le_of_ble_eq_true rfl, Nat.le_of_ble_eq_true rfl⟩ rfl rfl (Nat.le_of_ble_eq_true rfl) trivial (fun _ => c_AS_newLength (zln E) D g ad _ _ _ _ σ (by omega) (by omega) (by omega) ⟨rfl, by split <;> omega, by split <;> omega⟩) (fun r τ h9 => ?_)
    obtain ⟨rfl, hr1, hr2⟩ := h9
    refine z_istore_n (L' := [(3, .int (zi r)), (2, .int (zi (τ 47 l))), (0, .ref (ad (1, l))), (1, .int (zi (τ 40 l + 1)))]) C (pc := 30) d_AL_grow1_30 (by decide) rfl ?_
    refine z_aload_n C (pc := 31) d_AL_grow1_31 2 rfl ?_
    refine z_aload_n C (pc := 32) d_AL_grow1_32 2 rfl ?_
    refine x_getL (v := .ref (ad (2, l))) C l 0 hl6 (by decide) (by rw [ctL, if_pos hc]; rfl) rfl wd_50 (pc := 33) d_AL_grow1_33 ?_
    refine z_iload_n C (pc := 36) d_AL_grow1_36 0 rfl ?_
    refine xe_call (As := [.ref (ad (2, l)), .int (zi r)]) C S hA fs_AR_copyOf2 wd_265 (pc := 37) d_AL_grow1_37 ⟨rfl, rfl, Nat.le_of_ble_eq_true rfl, Nat.le_of_ble_eq_true rfl⟩ ⟨Nat.le_of_ble_eq_true rfl, Nat.le_of_ble_eq_true rfl⟩ rfl rfl (Nat.le_of_ble_eq_true rfl) (fun sz => c_AR_copyOf2 (zln E) D g ad l hl6 r τ hw hc (by omega) hr2 sz) (fun q f hf => ?_)
    refine z_dup_x1 C (pc := 40) d_AL_grow1_40 rfl rfl ?_
    exact fin q r f 41 _ d_AL_grow1_41 d_AL_grow1_44 (by omega) hr2 (by omega) hf
  · have h00 : σ 47 l = 0 := by omega
    refine x_getL (v := .ref g.2.1) C l 0 hl6 (by decide) (by rw [ctL, if_neg hc]; rfl) rfl wd_50 (pc := 1) d_AL_grow1_1 ?_
    refine xl_tlen C S (pc := 4) d_AL_grow1_4 ?_
    refine z_istore_n (L' := [(2, .int (zi 0)), (0, .ref (ad (1, l))), (1, .int (zi (σ 40 l + 1)))]) C (pc := 5) d_AL_grow1_5 (by decide) rfl ?_
    refine z_iload_n C (pc := 6) d_AL_grow1_6 0 rfl ?_
    refine z_if_gt (tgt := 20) C (pc := 7) d_AL_grow1_7 (by decide) (by decide) ⟨fun q => (show False by omega), fun q => q⟩ (fun q => q.elim) (fun _ => ?_)
    refine z_aload_n C (pc := 10) d_AL_grow1_10 1 rfl ?_
    refine x_getL (v := .ref g.2.1) C l 0 hl6 (by decide) (by rw [ctL, if_neg hc]; rfl) rfl wd_50 (pc := 11) d_AL_grow1_11 ?_
    refine xl_gets C S wd_48 (pc := 14) d_AL_grow1_14 ?_
    refine xl_sameE (tgt := 45) C (pc := 17) d_AL_grow1_17 (by decide) ?_
    refine z_aload_n C (pc := 45) d_AL_grow1_45 1 rfl ?_
    refine z_bipush C (pc := 46) d_AL_grow1_46 (by decide) ?_
    refine z_iload_n C (pc := 48) d_AL_grow1_48 2 rfl ?_
    refine x_mmax C wd_295 ⟨Nat.le_of_ble_eq_true rfl, Nat.le_of_ble_eq_true rfl, Nat.zero_le _, Nat.zero_le _⟩ (by decide) (by omega) (Nat.le_of_ble_eq_true rfl) (pc := 49) d_AL_grow1_49 ?_
    rw [if_neg (show ¬ 10 < σ 40 l + 1 by omega)]
    refine xl_anew C S hA wd_296 (by decide) (by decide) ⟨Nat.le_of_ble_eq_true rfl, Nat.le_of_ble_eq_true rfl⟩ (pc := 52) d_AL_grow1_52 (fun q => ?_)
    refine z_dup_x1 C (pc := 55) d_AL_grow1_55 rfl rfl ?_
    refine zW.widen (k' := 1) (n' := 100) (Nat.le_refl _) (by decide) ?_
    exact fin q 10 (fun _ => none) 56 _ d_AL_grow1_56 d_AL_grow1_59 (by decide) (by decide) (by omega) (fun x => by rw [q4 x (by omega)]; rfl)
