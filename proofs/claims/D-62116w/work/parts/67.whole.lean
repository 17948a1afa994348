/-! the law's walk, for any invariant that every step keeps -/
set_option maxRecDepth 20000 in
theorem whole_from (Inv : zS → Prop) (hI0 : Inv zσ0) (hI : ∀ (o a b c d : Int) (σ : zS), 0 ≤ o → o < 32 → zc a → zc b → zc c → zc d → Inv σ → wp_op o.toNat a b c d Inv σ) {p : Program} {e : Env} {s : State} {m : MethodId} {below : List Frame} {meth : Method} {c : Code} (l : Launch) {b L : Nat} {xs : Nat → Int32} (hL : L ≤ 320) (C0 : lw_At p s m meth c b L xs) : W p l e room_1 s m #[Value.ref b] below meth c s.heap [] 0 0 (lw_Z below #[Value.ref b] s) (entryFrame m ([Value.ref b] : List Value).toArray 4) := by
  obtain ⟨hx, hb, hr, hml, hown, hts, hX, hbl, hlk, hgv⟩ := C0
  obtain ⟨D, g, hK, S⟩ := st_start hts hgv
  have hl := lv_entry [Value.ref b] (n := 4) (Nat.le_of_ble_eq_true rfl)
  rw [lg_entry_eq]
  generalize (lg_sl [Value.ref b] ++ List.replicate (4 - (lg_sl [Value.ref b]).length) Slot.unset).toArray = ls at hl ⊢
  have body : ∀ E : zE, E = (p, l, e, room_1, s, m, #[Value.ref b], below, meth, c, 4, lw_Z below #[Value.ref b] s) → zX E code R_law D g room_1 4 → zW E (kOK D (fun q => (zst E).heap.size ≤ q) (zst E) []) 0 0 0 (lv_args 0 [.ref b]) [] zσ0 := by
    intro E hE C
    have hst : zst E = s := by rw [hE]; rfl
    have S : zSt g (fun q => (zst E).heap.size ≤ q) (zst E) (zst E).heap := by rw [hst]; exact S
    have hX : va_X b L xs (zst E) (zst E).heap := by rw [hst]; exact hX
    have hbl : b < (zst E).heap.size := by rw [hst]; exact hbl
    have hA : ∀ q, (zst E).heap.size ≤ q → (fun q => (zst E).heap.size ≤ q) q := fun _ h => h
    refine z_sub (L' := [(0, .ref b)]) [0] rfl ?_
    refine k_new (T := F_CX) (ci := 1) (fs := cxR) t_CX C hA rfl i_CX t_CX_ok wd_22 wd_23 wd_1 (by decide +kernel) ⟨Nat.le_of_ble_eq_true rfl, Nat.le_of_ble_eq_true rfl⟩ (show decode code 0 = .ok (.new 7, 3) by decide +kernel) (fun a => ?_)
    refine z_dup C (show decode code 3 = .ok (.dup, 1) by decide +kernel) rfl ?_
    refine k_call (st := [.ref a]) (As := []) C S hA fi_CX_init wd_24 (show decode code 4 = .ok (.invokespecial 9, 3) by decide +kernel) ⟨rfl, rfl, Nat.le_of_ble_eq_true rfl, Nat.le_of_ble_eq_true rfl⟩ ⟨Nat.le_of_ble_eq_true rfl, Nat.le_of_ble_eq_true rfl⟩ rfl rfl (Nat.le_of_ble_eq_true rfl) (fun sz => c_CX_init (zln E) D g a _ sz) (fun u hu => ?_)
    obtain ⟨qg, q0, q1, q2, q3, q4, q5, qd, r0, r1, r2, r3, r4, rfl⟩ := hu
    refine z_astore_n C (show decode code 7 = .ok (.astore_n 1, 1) by decide +kernel) (by decide) rfl ?_
    refine k_new (T := F_MM) (ci := 9) (fs := mmR) t_MM C hA rfl i_MM t_MM_ok wd_698 wd_699 wd_7 (by decide +kernel) ⟨Nat.le_of_ble_eq_true rfl, Nat.le_of_ble_eq_true rfl⟩ (show decode code 8 = .ok (.new 10, 3) by decide +kernel) (fun am => ?_)
    refine z_dup C (show decode code 11 = .ok (.dup, 1) by decide +kernel) rfl ?_
    refine k_call (st := [.ref am]) (As := []) C S hA fi_MM_init wd_700 (show decode code 12 = .ok (.invokespecial 12, 3) by decide +kernel) ⟨rfl, rfl, Nat.le_of_ble_eq_true rfl, Nat.le_of_ble_eq_true rfl⟩ ⟨Nat.le_of_ble_eq_true rfl, Nat.le_of_ble_eq_true rfl⟩ rfl rfl (Nat.le_of_ble_eq_true rfl) (fun sz => c_MM_init (zln E) D g am _ sz) (fun u hu => ?_)
    obtain ⟨a1, a2, a3, a4, a5, a6, a7, a8, a9, a10, a14, a15, a16, a17, a19, a21, a22, a23, a25, a26, a27, a28, a29, a30, a31, a32, a33, a35, a36, a37, a38, a39, a40, a41, a42, a43, a46, a47, a48, a49, a50, rfl⟩ := hu
    refine z_astore_n C (show decode code 15 = .ok (.astore_n 2, 1) by decide +kernel) (by decide) rfl ?_
    refine zW.mono (σ' := zσ0) (OK' := zOK D (fun q => (zst E).heap.size ≤ q) (zst E) g (kad [a, qg, q0, q1, q2, q3, q4, q5, qd, r0, r1, r2, r3, r4, am, a1, a2, a3, a4, a5, a6, a7, a8, a9, a10, a14, a15, a16, a17, a19, a21, a22, a23, a25, a26, a27, a28, a29, a30, a31, a32, a33, a35, a36, a37, a38, a39, a40, a41, a42, a43, a46, a47, a48, a49, a50])) (fun H locs ho => z_world0 (kworld g a qg q0 q1 q2 q3 q4 q5 qd r0 r1 r2 r3 r4 am a1 a2 a3 a4 a5 a6 a7 a8 a9 a10 a14 a15 a16 a17 a19 a21 a22 a23 a25 a26 a27 a28 a29 a30 a31 a32 a33 a35 a36 a37 a38 a39 a40 a41 a42 a43 a46 a47 a48 a49 a50) ho) ?_
    refine z_iconst C (show decode code 16 = .ok (.iconst 0, 1) by decide +kernel) ?_
    refine z_istore_n C (show decode code 17 = .ok (.istore_n 3, 1) by decide +kernel) (by decide) rfl ?_
    refine z_sub (L' := lcl b (5 * ((0 : Nat) : Int)) (kad [a, qg, q0, q1, q2, q3, q4, q5, qd, r0, r1, r2, r3, r4, am, a1, a2, a3, a4, a5, a6, a7, a8, a9, a10, a14, a15, a16, a17, a19, a21, a22, a23, a25, a26, a27, a28, a29, a30, a31, a32, a33, a35, a36, a37, a38, a39, a40, a41, a42, a43, a46, a47, a48, a49, a50])) [3, 2, 1, 0] rfl ?_
    refine (lw_loop (E := E) (D := D) (g := g) (xs := xs) ⟨C, S, hX, hbl, hL⟩ Inv hI ?_ L 0 (by omega) (by omega) _ zσ0 hI0).widen (Nat.le_of_ble_eq_true rfl) (Nat.le_of_ble_eq_true rfl)
    intro ad j σ
    refine z_iconst C (show decode code 576 = .ok (.iconst 1, 1) by decide +kernel) ?_
    subst hE
    intro H locs ls ho hl
    refine va_forget (fun q hq => ho.2.2.2.2 q hq) ?_
    exact lw_ret hx hb hr hlk (show decode code 577 = .ok (.ireturn, 1) by decide +kernel)
  exact body _ rfl ⟨⟨hx, hb, hml, hown, fun w hw => hts w (lw_gt hw)⟩, hK, rfl, rfl⟩ s.heap [] ls ⟨fun k q hk => (by cases hk), ⟨fun i j p q hi => (by cases hi), fun k q hk => (by cases hk)⟩, va_S.rf⟩ hl
