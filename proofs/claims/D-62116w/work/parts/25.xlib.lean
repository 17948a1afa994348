/-! kinds, lists (size, get), casts, Math, arraycopy -/
section ZL
variable {E : zE} {k n pc : Nat} {L L' : List (Nat × Value)} {st : List Value} {σ : zS} {cc : ByteArray} {own : String} {D : va_G} {g : zG} {rm : Room} {nl : Nat} {A : Nat → Prop} {ad : zA}
theorem x_gets {index : Nat} {nm : String} (C : zX E cc own D g rm nl) (S : zSt g A (zst E) (zst E).heap) (x : Int) (h0 : 0 ≤ x) (h1 : x < 4) (hn : zKn.getD x.toNat "" = nm) (hlink : Cond.fieldLink own index "CellMapper$Kind" nm "LCellMapper$Kind;" ∈ lw_g) (d : decode cc pc = .ok (.getstatic index, 3))
    (kk : zW E (zOK D A (zst E) g ad) k n (pc + 3) L (kv g x :: st) σ) : zW E (zOK D A (zst E) g ad) k n pc L st σ := by
  obtain ⟨p, l, e, R, s, m, args, below, meth, c, nL, Z⟩ := E
  obtain ⟨⟨hx, hb, hml, hown, hts⟩, hK, hR, hN⟩ := C
  intro H locs ls ho hl
  subst hn
  rw [kv_s g h0] at kk
  exact va_gets hx hb (S.1.1 x.toNat (by show _ < 4; omega)).1 ho.2.2 hown (hts _ hlink) (fun _ h => h) d (kk H locs ls ho hl)
theorem zK_inj {s : State} {H : Heap} (S : zSt g A s H) {x y : Int} (h0 : 0 ≤ x) (h1 : x < 4) (h2 : 0 ≤ y) (h3 : y < 4) : (some (g.2.2 x.toNat) = some (g.2.2 y.toNat)) ↔ x = y := by
  constructor
  · intro h
    have := S.1.2 x.toNat y.toNat (by show _ < 4; omega) (by show _ < 4; omega) (Option.some.inj h)
    omega
  · intro h; rw [h]
theorem x_acmpK_ne {x y off : Int} {tgt : Nat} {P1 P2 : Prop} (C : zX E cc own D g rm nl) (S : zSt g A (zst E) (zst E).heap) (d : decode cc pc = .ok (.if_acmp .ne off, 3)) (ht : (pc : Int) + off = (tgt : Int)) (h0 : 0 ≤ x) (h1 : x < 4) (h2 : 0 ≤ y) (h3 : y < 4) (h : (x = y → P1) ∧ (¬ x = y → P2)) (kt : P2 → zW E (zOK D A (zst E) g ad) k n tgt L st σ) (kf : P1 → zW E (zOK D A (zst E) g ad) k n (pc + 3) L st σ) : zW E (zOK D A (zst E) g ad) k n pc L (kv g y :: kv g x :: st) σ := by
  obtain ⟨p, l, e, R, s, m, args, below, meth, c, nL, Z⟩ := E
  obtain ⟨⟨hx, hb, hml, hown, hts⟩, hK, hR, hN⟩ := C
  intro H locs ls ho hl
  have hi := zK_inj S h0 h1 h2 h3
  rw [kv_s g h0, kv_s g h2]
  exact lv_acmp_ne (rx := some (g.2.2 x.toNat)) (ry := some (g.2.2 y.toNat)) hx hb d ht (fun q => kt (h.2 (fun z => q (hi.mpr z))) H locs ls ho hl) (fun q => kf (h.1 (hi.mp q)) H locs ls ho hl)
theorem x_acmpK_eq {x y off : Int} {tgt : Nat} {P1 P2 : Prop} (C : zX E cc own D g rm nl) (S : zSt g A (zst E) (zst E).heap) (d : decode cc pc = .ok (.if_acmp .eq off, 3)) (ht : (pc : Int) + off = (tgt : Int)) (h0 : 0 ≤ x) (h1 : x < 4) (h2 : 0 ≤ y) (h3 : y < 4) (h : (x = y → P1) ∧ (¬ x = y → P2)) (kt : P1 → zW E (zOK D A (zst E) g ad) k n tgt L st σ) (kf : P2 → zW E (zOK D A (zst E) g ad) k n (pc + 3) L st σ) : zW E (zOK D A (zst E) g ad) k n pc L (kv g y :: kv g x :: st) σ := by
  obtain ⟨p, l, e, R, s, m, args, below, meth, c, nL, Z⟩ := E
  obtain ⟨⟨hx, hb, hml, hown, hts⟩, hK, hR, hN⟩ := C
  intro H locs ls ho hl
  have hi := zK_inj S h0 h1 h2 h3
  rw [kv_s g h0, kv_s g h2]
  exact lv_acmp_eq (rx := some (g.2.2 x.toNat)) (ry := some (g.2.2 y.toNat)) hx hb d ht (fun q => kt (h.1 (hi.mp q)) H locs ls ho hl) (fun q => kf (h.2 (fun z => q (hi.mpr z))) H locs ls ho hl)
/-- a field of a kind: q of zKF -/
theorem x_getK {index : Nat} {q : String × String × String × List Int32} {x v : Int} (C : zX E cc own D g rm nl) (S : zSt g A (zst E) (zst E).heap) (hq : q ∈ zKF) (h0 : 0 ≤ x) (h1 : x < 4) (hv : q.2.2.2.getD x.toNat 0 = zi v) (hlink : Cond.fieldLink own index q.1 q.2.1 q.2.2.1 ∈ lw_g) (d : decode cc pc = .ok (.getfield index, 3))
    (kk : zW E (zOK D A (zst E) g ad) k n (pc + 3) L (.int (zi v) :: st) σ) : zW E (zOK D A (zst E) g ad) k n pc L (kv g x :: st) σ := by
  obtain ⟨p, l, e, R, s, m, args, below, meth, c, nL, Z⟩ := E
  obtain ⟨⟨hx, hb, hml, hown, hts⟩, hK, hR, hN⟩ := C
  intro H locs ls ho hl
  rw [kv_s g h0]
  exact va_getE hx hb S.1 (i := x.toNat) (by show _ < 4; omega) ho.2.2 hown hq (hts _ hlink) (fun _ h => h) d (by rw [hv]; exact kk H locs ls ho hl)
theorem d_KI_logic_0 : decode b_KI_logic 0 = .ok (.aload_n 0, 1) := by decide +kernel
theorem d_KI_logic_1 : decode b_KI_logic 1 = .ok (.getfield 35, 3) := by decide +kernel
theorem d_KI_logic_4 : decode b_KI_logic 4 = .ok (.ireturn, 1) := by decide +kernel
theorem d_EN_ordinal_0 : decode b_EN_ordinal 0 = .ok (.aload_n 0, 1) := by decide +kernel
theorem d_EN_ordinal_1 : decode b_EN_ordinal 1 = .ok (.getfield 7, 3) := by decide +kernel
theorem d_EN_ordinal_4 : decode b_EN_ordinal 4 = .ok (.ireturn, 1) := by decide +kernel
def lgc (x : Int) : Int := if 2 ≤ x then 1 else 0
theorem lgc_c (x : Int) : zc (lgc x) := by unfold lgc; split <;> decide
theorem lgc_b (x : Int) : lgc x = 0 ∨ lgc x = 1 := by unfold lgc; split <;> simp
theorem c_KI_logic (l : Launch) (D : va_G) (g : zG) (ad : zA) (x : Int) (Q : Int → zS → Prop) (σ : zS) (h0 : 0 ≤ x) (h1 : x < 4) (h : Q (lgc x) σ) : zGi l y_KI_logic b_KI_logic 1 (some .boolean) { frames := 0, cells := 0, slots := 0, locals := 0 } D g ad σ [.ref (g.2.2 x.toNat)] Q := by
  refine zN_of (by decide) (Nat.le_of_ble_eq_true rfl) (fun E C R S => ?_)
  have C : zX E b_KI_logic "CellMapper$Kind" D g { frames := 0, cells := 0, slots := 0, locals := 0 } 1 := C
  refine z_sub (L' := [(0, .ref (g.2.2 x.toNat))]) [0] rfl ?_
  refine z_aload_n C d_KI_logic_0 0 rfl ?_
  rw [← kv_s g h0]
  refine x_getK (q := ("CellMapper$Kind", "logic", "Z", [0, 0, 1, 1])) (x := x) (v := lgc x) C S (by decide) h0 h1 ?_ wd_1120 (pc := 1) d_KI_logic_1 ?_
  · rcases (show x = 0 ∨ x = 1 ∨ x = 2 ∨ x = 3 by omega) with rfl | rfl | rfl | rfl <;> decide
  · exact z_zret C R d_KI_logic_4 (lgc_b x) h
theorem c_EN_ordinal (l : Launch) (D : va_G) (g : zG) (ad : zA) (x : Int) (Q : Int → zS → Prop) (σ : zS) (h0 : 0 ≤ x) (h1 : x < 4) (h : Q x σ) : zGi l y_EN_ordinal b_EN_ordinal 1 (some .int) { frames := 0, cells := 0, slots := 0, locals := 0 } D g ad σ [.ref (g.2.2 x.toNat)] Q := by
  refine zN_of (by decide) (Nat.le_of_ble_eq_true rfl) (fun E C R S => ?_)
  have C : zX E b_EN_ordinal "java/lang/Enum" D g { frames := 0, cells := 0, slots := 0, locals := 0 } 1 := C
  refine z_sub (L' := [(0, .ref (g.2.2 x.toNat))]) [0] rfl ?_
  refine z_aload_n C d_EN_ordinal_0 0 rfl ?_
  rw [← kv_s g h0]
  refine x_getK (q := ("java/lang/Enum", "ordinal", "I", [0, 1, 2, 3])) (x := x) (v := x) C S (by decide) h0 h1 ?_ wd_1121 (pc := 1) d_EN_ordinal_1 ?_
  · rcases (show x = 0 ∨ x = 1 ∨ x = 2 ∨ x = 3 by omega) with rfl | rfl | rfl | rfl <;> decide
  · exact z_iret C R d_EN_ordinal_4 h
theorem x_logic {index : Nat} {x : Int} (C : zX E cc own D g rm nl) (S : zSt g A (zst E) (zst E).heap) (hlink : Cond.methodLink own index y_KI_logic ∈ lw_g) (hR : 1 ≤ rm.frames ∧ 20 ≤ rm.locals) (h0 : 0 ≤ x) (h1 : x < 4) (hst : (st.map fun v => v.category).sum ≤ 8) (d : decode cc pc = .ok (.invokevirtual index, 3))
    (kk : zW E (zOK D A (zst E) g ad) 0 0 (pc + 3) L (.int (zi (lgc x)) :: st) σ) : zW E (zOK D A (zst E) g ad) 0 0 pc L (kv g x :: st) σ := by
  obtain ⟨p, l, e, R, s, m, args, below, meth, c, nL, Z⟩ := E
  obtain ⟨⟨hx, hb, hml, hown, hts⟩, hK, hRm, hN⟩ := C
  subst hRm
  rw [kv_s g h0]
  intro H locs ls ho hl
  obtain ⟨y1, y2, y3, y4, y5, y6, y7⟩ := fy_KI_logic
  have hG : GoodIn lw_g (wsV own index "CellMapper$Kind" y_KI_logic (zws y_KI_logic b_KI_logic 1 (some .boolean))) := by
    intro w hw
    simp only [wsV, List.mem_append, List.mem_cons, List.not_mem_nil, or_false] at hw
    rcases hw with (rfl | rfl | rfl | rfl) | hw
    · exact ⟨hlink, lw_good _ hlink⟩
    · exact ⟨y1, lw_good _ y1⟩
    · exact ⟨y2, lw_good _ y2⟩
    · exact ⟨y3, lw_good _ y3⟩
    · exact zws_good _ _ _ _ y4 w hw
  refine va_calli (va_runV (As := []) (rest := st) ⟨hx, hb, hml, hown, hts⟩ (c_KI_logic l D g ad x (fun r τ => r = lgc x ∧ τ = σ) σ h0 h1 ⟨rfl, rfl⟩) (cwV 0 hts hG rfl rfl rfl ⟨rfl, y5, y6, y7⟩ ⟨hR.1, hR.2⟩) ⟨zPy_blind, va_recvE S.1 (i := x.toNat) (by show _ < 4; omega) ho.2.2, fun U hU hW => zPy_at (p := p) hK S ho U hU hW⟩ rfl rfl hl.1 rfl (lv_room hst) d ⟨Nat.zero_le _, Nat.zero_le _⟩) ho.2.2 (fun q _ h => zAd_sub ho.2.1 h) (fun q h => zAd_sub ho.2.1 h) (fun r u t H1 locs1 ht hvm hw hB hz1 hk1 hS1 => ?_)
  obtain ⟨z, rfl, rfl, rfl⟩ := hw
  exact kk H1 locs1 ls (zB_ok (fun q h => zAd_sub ho.2.1 h) ht hB hS1) hl
theorem x_ordinal {index : Nat} {x : Int} (C : zX E cc own D g rm nl) (S : zSt g A (zst E) (zst E).heap) (hlink : Cond.methodLink own index ⟨"CellMapper$Kind", "ordinal", "()I"⟩ ∈ lw_g) (hR : 1 ≤ rm.frames ∧ 20 ≤ rm.locals) (h0 : 0 ≤ x) (h1 : x < 4) (hst : (st.map fun v => v.category).sum ≤ 8) (d : decode cc pc = .ok (.invokevirtual index, 3))
    (kk : zW E (zOK D A (zst E) g ad) 0 0 (pc + 3) L (.int (zi x) :: st) σ) : zW E (zOK D A (zst E) g ad) 0 0 pc L (kv g x :: st) σ := by
  obtain ⟨p, l, e, R, s, m, args, below, meth, c, nL, Z⟩ := E
  obtain ⟨⟨hx, hb, hml, hown, hts⟩, hK, hRm, hN⟩ := C
  subst hRm
  rw [kv_s g h0]
  intro H locs ls ho hl
  have w1 : Cond.sameMethod "CellMapper$Kind" "java/lang/Enum" "ordinal" "()I" ∈ lw_g := List.mem_filter.mpr ⟨List.mem_append_right _ (List.mem_of_getElem? (i := 681) (by decide +kernel)), rfl⟩
  have w2 : Cond.selects "CellMapper$Kind" ⟨"CellMapper$Kind", "ordinal", "()I"⟩ y_EN_ordinal ∈ lw_g := List.mem_filter.mpr ⟨List.mem_append_right _ (List.mem_of_getElem? (i := 683) (by decide +kernel)), rfl⟩
  have w3 : Cond.instanceMethod y_EN_ordinal ∈ lw_g := wd_684
  have w4 : Cond.initialized "java/lang/Enum" ∈ lw_g := wd_8
  have hG : GoodIn lw_g (va_wsU own index "CellMapper$Kind" "java/lang/Enum" ⟨"CellMapper$Kind", "ordinal", "()I"⟩ y_EN_ordinal (zws y_EN_ordinal b_EN_ordinal 1 (some .int))) := by
    intro w hw
    simp only [va_wsU, List.mem_append, List.mem_cons, List.not_mem_nil, or_false] at hw
    rcases hw with (rfl | rfl | rfl | rfl | rfl) | hw
    · exact ⟨hlink, lw_good _ hlink⟩
    · exact ⟨w1, lw_good _ w1⟩
    · exact ⟨w2, lw_good _ w2⟩
    · exact ⟨w3, lw_good _ w3⟩
    · exact ⟨w4, lw_good _ w4⟩
    · exact zws_good _ _ _ _ wc_EN_ordinal w hw
  refine va_calli (va_runU (As := []) (rest := st) ⟨hx, hb, hml, hown, hts⟩ (c_EN_ordinal l D g ad x (fun r τ => r = x ∧ τ = σ) σ h0 h1 ⟨rfl, rfl⟩) (va_cwA 0 hts hG rfl rfl rfl S.2.2.2.2.2.1 ⟨by decide, by decide, by decide +kernel⟩ ⟨hR.1, hR.2⟩) ⟨zPy_blind, va_recvE S.1 (i := x.toNat) (by show _ < 4; omega) ho.2.2, fun U hU hW => zPy_at (p := p) hK S ho U hU hW⟩ rfl rfl hl.1 rfl (lv_room hst) d ⟨Nat.zero_le _, Nat.zero_le _⟩) ho.2.2 (fun q _ h => zAd_sub ho.2.1 h) (fun q h => zAd_sub ho.2.1 h) (fun r u t H1 locs1 ht hvm hw hB hz1 hk1 hS1 => ?_)
  obtain ⟨z, rfl, rfl, rfl⟩ := hw
  exact kk H1 locs1 ls (zB_ok (fun q h => zAd_sub ho.2.1 h) ht hB hS1) hl
/-- Math.min, Math.max -/
theorem x_mmin {index : Nat} {x y : Int} (C : zX E cc own D g rm nl) (hlink : Cond.methodLink own index y_MA_min ∈ lw_g) (hR : 1 ≤ rm.frames ∧ 21 ≤ rm.locals ∧ k ≤ rm.cells ∧ n ≤ rm.slots) (hx1 : zc x) (hy1 : zc y) (hst : (st.map fun v => v.category).sum ≤ 8) (d : decode cc pc = .ok (.invokestatic index, 3))
    (kk : zW E (zOK D A (zst E) g ad) k n (pc + 3) L (.int (zi (if y < x then y else x)) :: st) σ) : zW E (zOK D A (zst E) g ad) k n pc L (.int (zi y) :: .int (zi x) :: st) σ := by
  obtain ⟨p, l, e, R, s, m, args, below, meth, c, nL, Z⟩ := E
  obtain ⟨⟨hx, hb, hml, hown, hts⟩, hK, hRm, hN⟩ := C
  subst hRm
  intro H locs ls ho hl
  refine va_mmin hx hb (hml.trans hl.1.symm) hown (hts _ hlink) (hts _ fs_MA_min.1) (hts _ fs_MA_min.2.1) (hts _ wc_MA_min) hR.1 (by omega) hR.2.2.1 hR.2.2.2 d ?_
  have e1 : (if zi y < zi x then zi y else zi x) = zi (if y < x then y else x) := by
    by_cases h : y < x
    · rw [if_pos h, if_pos ((zi_lt hy1 hx1).mpr h)]
    · rw [if_neg h, if_neg (fun q => h ((zi_lt hy1 hx1).mp q))]
  rw [e1]
  exact kk H locs ls ho hl
theorem x_mmax {index : Nat} {x y : Int} (C : zX E cc own D g rm nl) (hlink : Cond.methodLink own index y_MA_max ∈ lw_g) (hR : 1 ≤ rm.frames ∧ 21 ≤ rm.locals ∧ k ≤ rm.cells ∧ n ≤ rm.slots) (hx1 : zc x) (hy1 : zc y) (hst : (st.map fun v => v.category).sum ≤ 8) (d : decode cc pc = .ok (.invokestatic index, 3))
    (kk : zW E (zOK D A (zst E) g ad) k n (pc + 3) L (.int (zi (if x < y then y else x)) :: st) σ) : zW E (zOK D A (zst E) g ad) k n pc L (.int (zi y) :: .int (zi x) :: st) σ := by
  obtain ⟨p, l, e, R, s, m, args, below, meth, c, nL, Z⟩ := E
  obtain ⟨⟨hx, hb, hml, hown, hts⟩, hK, hRm, hN⟩ := C
  subst hRm
  intro H locs ls ho hl
  refine va_mmax hx hb (hml.trans hl.1.symm) hown (hts _ hlink) (hts _ fs_MA_max.1) (hts _ fs_MA_max.2.1) (hts _ wc_MA_max) hR.1 (by omega) hR.2.2.1 hR.2.2.2 d ?_
  have e1 : (if zi x < zi y then zi y else zi x) = zi (if x < y then y else x) := by
    by_cases h : x < y
    · rw [if_pos h, if_pos ((zi_lt hx1 hy1).mpr h)]
    · rw [if_neg h, if_neg (fun q => h ((zi_lt hx1 hy1).mp q))]
  rw [e1]
  exact kk H locs ls ho hl
/-- casts to Node and to Cell -/
theorem x_castN {index : Nat} {x : Int} (C : zX E cc own D g rm nl) (hlink : Cond.classLink own index R_ND ∈ lw_g) (hx1 : zvn σ x) (d : decode cc pc = .ok (.checkcast index, 3))
    (kk : zW E (zOK D A (zst E) g ad) k n (pc + 3) L (zr ad 4 x :: st) σ) : zW E (zOK D A (zst E) g ad) k n pc L (zr ad 4 x :: st) σ := by
  obtain ⟨p, l, e, R, s, m, args, below, meth, c, nL, Z⟩ := E
  obtain ⟨⟨hx, hb, hml, hown, hts⟩, hK, hRm, hN⟩ := C
  intro H locs ls ho hl
  have kk := kk H locs ls ho hl
  rcases hx1 with rfl | ⟨h0, h1⟩
  · rw [zr_n ad 4 (by decide)] at kk ⊢
    exact lv_castN hx hb d kk
  · rw [zr_s ad 4 h0] at kk ⊢
    obtain ⟨q, -, hq⟩ := gw_get (ad := ad) (ct := ct g ad σ) (zids_node (σ := σ) h0 h1)
    exact va_castS hx hb hown (hts _ hlink) (hK.1 4 (R_ND, F_ND, 18) rfl).2 (va_recv hK ho.1 (ci := 4) rfl hq) d kk
theorem x_castC {index : Nat} {x : Int} (C : zX E cc own D g rm nl) (hlink : Cond.classLink own index R_CE ∈ lw_g) (h0 : 0 ≤ x) (h1 : x < σ 71 0) (d : decode cc pc = .ok (.checkcast index, 3))
    (kk : zW E (zOK D A (zst E) g ad) k n (pc + 3) L (zr ad 5 x :: st) σ) : zW E (zOK D A (zst E) g ad) k n pc L (zr ad 5 x :: st) σ := by
  obtain ⟨p, l, e, R, s, m, args, below, meth, c, nL, Z⟩ := E
  obtain ⟨⟨hx, hb, hml, hown, hts⟩, hK, hRm, hN⟩ := C
  intro H locs ls ho hl
  have kk := kk H locs ls ho hl
  rw [zr_s ad 5 h0] at kk ⊢
  obtain ⟨q, -, hq⟩ := gw_get (ad := ad) (ct := ct g ad σ) (zids_cell (σ := σ) h0 h1)
  exact va_castS hx hb hown (hts _ hlink) (hK.1 5 (R_CE, F_CE, 6) rfl).2 (va_recv hK ho.1 (ci := 5) rfl hq) d kk
end ZL
