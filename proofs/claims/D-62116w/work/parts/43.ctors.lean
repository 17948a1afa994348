/-! constructors that make nothing -/
def zYi (y : MethodName) (bytes : ByteArray) (maxL : Nat) (n : Nat) : Prop := Cond.instanceMethod y ∈ lw_g ∧ Cond.initialized y.cls ∈ lw_g ∧ Cond.code y bytes maxL none ∈ lw_g ∧ y.name = "<init>" ∧ (y.cls ≠ "java/lang/invoke/MethodHandle" ∧ y.cls ≠ "java/lang/invoke/VarHandle" ∧ (parseMethodDescriptor y.desc).map (fun d => d.parameters.length) = some n)
section ZO
variable {E : zE} {k n pc : Nat} {L L' : List (Nat × Value)} {st : List Value} {σ : zS} {cc : ByteArray} {own : String} {D : va_G} {g : zG} {rm : Room} {nl : Nat} {A : Nat → Prop} {ad : zA}
theorem x_objInit {index a : Nat} {OK : zS → Heap → List Loc → Prop} (C : zX E cc own D g rm nl) (hlink : Cond.methodLink own index objectInit ∈ lw_g) (hR : 1 ≤ rm.frames ∧ 20 ≤ rm.locals) (hst : (st.map fun v => v.category).sum ≤ 8) (d : decode cc pc = .ok (.invokespecial index, 3)) (kk : zW E OK k n (pc + 3) L st σ) : zW E OK k n pc L (.ref a :: st) σ := by
  obtain ⟨p, l, e, R, s, m, args, below, meth, c, nL, Z⟩ := E
  obtain ⟨⟨hx, hb, hml, hown, hts⟩, hK, hRm, hN⟩ := C
  subst hRm
  intro H locs ls ho hl
  have w1 : Cond.instanceMethod objectInit ∈ lw_g := wd_28
  have w2 : Cond.code objectInit ⟨#[0xb1]⟩ 1 none ∈ lw_g := List.mem_filter.mpr ⟨List.mem_append_right _ (List.mem_of_getElem? (i := 29) rfl), rfl⟩
  exact W.objInit hx hb hown (hts _ hlink) (hts _ w1) (hts _ w2) rfl (by rw [hml]; exact hl.1) rfl d hR.1 (by show 2 * 0 + _ + 12 ≤ _; omega) (kk H locs ls ho hl)
theorem x_putNF {e v : Int} {index : Nat} {w : Value} (C : zX E cc R_ND D g rm nl) (hin : E.2.2.2.2.2.2.2.2.1.name = "<init>") (f : Nat) (hf : f < 5) (h0 : 0 ≤ e) (h1 : e < σ 70 0) (hv : nv g ad f v = w) (hn : narrow (t_ND f) w = w ∧ fits (t_ND f) w = true) (hlink : Cond.fieldLink R_ND index R_ND (F_ND f).2.1 (F_ND f).2.2.1 ∈ lw_g) (d : decode cc pc = .ok (.putfield index, 3))
    (kk : zW E (zOK D A (zst E) g ad) k n (pc + 3) L st (zup σ f e v)) : zW E (zOK D A (zst E) g ad) k n pc L (w :: zr ad 4 e :: st) σ := by
  have hd : ∀ j, j < 5 → (F_ND j).1 = R_ND ∧ (F_ND j).2.2.2 = true := by decide +kernel
  rw [zr_s ad 4 h0]
  refine g_putF (T := F_ND) (ci := 4) (ty := t_ND) C hin (zids_node h0 h1) rfl rfl i_ND t_ND_ok n_ND (show f < 18 by omega) (hd f hf).1 hlink (hd f hf).2 hn (by simp [ctN]; omega) (zids_up (by omega) (by omega) (by omega) (by omega)) (fun k' _ _ => zup_f σ e v (by omega)) ?_ (fun u hu hne => ct_node_ne (by omega) h0 hu hne) d kk
  show Sum.inr (4, ctN g ad _ e.toNat) = _
  rw [ctN_set (by omega) h0, hv]
theorem ctC_set {ad : zA} {σ : zS} {e : Int} {f : Nat} (hf : f < 6) (h0 : 0 ≤ e) (v : Int) : ctC ad (zup σ (20 + f) e v) e.toNat = (ctC ad σ e.toNat).set f (cv ad f v) := by
  apply List.ext_getElem?
  intro i
  have hl : (ctC ad σ e.toNat).length = 6 := by simp [ctC]
  by_cases hi : i = f
  · subst hi
    rw [List.getElem?_set_self (by omega), ctC_at hf h0, zup_at]
  · rw [List.getElem?_set_ne (Ne.symm hi)]
    by_cases h18 : i < 6
    · rw [ctC_at h18 h0, ctC_at h18 h0, zup_ne σ e v e (by omega)]
    · rw [List.getElem?_eq_none (by simp [ctC]; omega), List.getElem?_eq_none (by omega)]
theorem ct_cell_ne {g : zG} {ad : zA} {σ : zS} {e v : Int} {f : Nat} (hf : f < 6) (h0 : 0 ≤ e) {u : zT} (hu : u ∈ zids σ) (hne : u ≠ (5, e.toNat)) : ct g ad (zup σ (20 + f) e v) u = ct g ad σ u := by
  obtain ⟨a, b⟩ := u
  by_cases h4 : a = 5
  · subst h4
    have hb : b ≠ e.toNat := fun q => hne (by rw [q])
    show Sum.inr (5, ctC ad _ b) = Sum.inr (5, ctC ad σ b)
    simp only [ctC]
    congr 2
    apply List.map_congr_left
    intro i _
    by_cases hi : i = f
    · subst hi
      rw [zup_ni σ (20 + i) v (show (b : Int) ≠ e by omega)]
    · rw [zup_ne σ e v b (by omega)]
  · refine ct_fam (fun k hk => zup_f σ e v (fun q => ?_)) <;> (have hz := zids_sort hu) <;> (rcases a with _ | _ | _ | _ | _ | _ | _ | a) <;> first | (rcases b with _ | _ | _ | b <;> simp only [fam] at hk <;> omega) | (have := (zids_two hu).1; simp only [fam] at hk; omega) | (simp only [fam] at hk; omega)
theorem x_putCF {e v : Int} {index : Nat} {w : Value} (C : zX E cc R_CE D g rm nl) (hin : E.2.2.2.2.2.2.2.2.1.name = "<init>") (f fm : Nat) (hfm : 20 + f = fm) (hf : f < 6) (h0 : 0 ≤ e) (h1 : e < σ 71 0) (hv : cv ad f v = w) (hn : narrow (t_CE f) w = w ∧ fits (t_CE f) w = true) (hlink : Cond.fieldLink R_CE index R_CE (F_CE f).2.1 (F_CE f).2.2.1 ∈ lw_g) (d : decode cc pc = .ok (.putfield index, 3))
    (kk : zW E (zOK D A (zst E) g ad) k n (pc + 3) L st (zup σ fm e v)) : zW E (zOK D A (zst E) g ad) k n pc L (w :: zr ad 5 e :: st) σ := by
  have hd : ∀ j, j < 6 → (F_CE j).1 = R_CE ∧ (F_CE j).2.2.2 = true := by decide +kernel
  subst hfm
  rw [zr_s ad 5 h0]
  refine g_putF (T := F_CE) (ci := 5) (ty := t_CE) C hin (zids_cell h0 h1) rfl rfl i_CE t_CE_ok n_CE hf (hd f hf).1 hlink (hd f hf).2 hn (by simp [ctC]; omega) (zids_up (by omega) (by omega) (by omega) (by omega)) (fun k' _ _ => zup_f σ e v (by omega)) ?_ (fun u hu hne => ct_cell_ne (by omega) h0 hu hne) d kk
  show Sum.inr (5, ctC ad _ e.toNat) = _
  rw [ctC_set (by omega) h0, hv]
theorem ct_pat_ne {g : zG} {ad : zA} {σ : zS} {e v : Int} {f : Nat} (hf : f = 31 ∨ f = 32) (h0 : 0 ≤ e) {u : zT} (hu : u ∈ zids σ) (hne : u ≠ (6, e.toNat)) : ct g ad (zup σ f e v) u = ct g ad σ u := by
  obtain ⟨a, b⟩ := u
  by_cases h4 : a = 6
  · subst h4
    have hb : b ≠ e.toNat := fun q => hne (by rw [q])
    have e1 : ∀ f', zup σ f e v f' b = σ f' b := fun f' => by
      by_cases hq : f' = f
      · subst hq
        exact zup_ni σ f' v (show (b : Int) ≠ e by omega)
      · exact zup_ne σ e v b hq
    show ctP ad _ b = ctP ad σ b
    simp only [ctP, e1]
  · refine ct_fam (fun k hk => zup_f σ e v (fun q => ?_)) <;> (have hz := zids_sort hu) <;> (rcases a with _ | _ | _ | _ | _ | _ | _ | a) <;> first | (rcases b with _ | _ | _ | b <;> simp only [fam] at hk <;> omega) | (have := (zids_two hu).1; simp only [fam] at hk; omega) | (simp only [fam] at hk; omega)
theorem x_putP0F {e v : Int} {index : Nat} (C : zX E cc R_PI D g rm nl) (hin : E.2.2.2.2.2.2.2.2.1.name = "<init>") (h0 : 0 ≤ e) (h1 : e < σ 72 0) (hs : σ 30 e = 0) (hlink : Cond.fieldLink R_PI index R_PI (F_PI 0).2.1 (F_PI 0).2.2.1 ∈ lw_g) (d : decode cc pc = .ok (.putfield index, 3))
    (kk : zW E (zOK D A (zst E) g ad) k n (pc + 3) L st (zup σ 31 e v)) : zW E (zOK D A (zst E) g ad) k n pc L (.int (zi v) :: zr ad 6 e :: st) σ := by
  rw [zr_s ad 6 h0]
  refine g_putF (T := F_PI) (ci := 6) (ty := t_PI) (fs := [.int (zi (σ 31 e))]) C hin (zids_pat h0 h1) (ct_pat0 h0 hs) rfl i_PI t_PI_ok n_PI (by decide) rfl hlink rfl ⟨rfl, rfl⟩ (Nat.lt_succ_self 0) (zids_up (by omega) (by omega) (by omega) (by omega)) (fun k' _ _ => zup_f σ e v (by omega)) ?_ (fun u hu hne => ct_pat_ne (Or.inl rfl) h0 hu hne) d kk
  rw [ct_pat0 h0 (by rw [zup_ne σ e v e (by decide)]; exact hs), zup_at]
  rfl
theorem x_putP1F {e v : Int} {index : Nat} (C : zX E cc R_IN D g rm nl) (hin : E.2.2.2.2.2.2.2.2.1.name = "<init>") (h0 : 0 ≤ e) (h1 : e < σ 72 0) (hs : σ 30 e = 1) (hlink : Cond.fieldLink R_IN index R_IN (F_IN 0).2.1 (F_IN 0).2.2.1 ∈ lw_g) (d : decode cc pc = .ok (.putfield index, 3))
    (kk : zW E (zOK D A (zst E) g ad) k n (pc + 3) L st (zup σ 31 e v)) : zW E (zOK D A (zst E) g ad) k n pc L (zr ad 6 v :: zr ad 6 e :: st) σ := by
  rw [zr_s ad 6 h0]
  refine g_putF (T := F_IN) (ci := 7) (ty := t_IN) (fs := [zr ad 6 (σ 31 e)]) C hin (zids_pat h0 h1) (ct_pat1 h0 hs) rfl i_IN t_IN_ok n_IN (by decide) rfl hlink rfl (zr_fit _ _ _ _) (Nat.lt_succ_self 0) (zids_up (by omega) (by omega) (by omega) (by omega)) (fun k' _ _ => zup_f σ e v (by omega)) ?_ (fun u hu hne => ct_pat_ne (Or.inl rfl) h0 hu hne) d kk
  rw [ct_pat1 h0 (by rw [zup_ne σ e v e (by decide)]; exact hs), zup_at]
  rfl
theorem x_putP2F {e v : Int} {index : Nat} (C : zX E cc R_NA D g rm nl) (hin : E.2.2.2.2.2.2.2.2.1.name = "<init>") (j fm : Nat) (hfm : 31 + j = fm) (hj : j < 2) (h0 : 0 ≤ e) (h1 : e < σ 72 0) (hs : σ 30 e = 2) (hlink : Cond.fieldLink R_NA index R_NA (F_NA j).2.1 (F_NA j).2.2.1 ∈ lw_g) (d : decode cc pc = .ok (.putfield index, 3))
    (kk : zW E (zOK D A (zst E) g ad) k n (pc + 3) L st (zup σ fm e v)) : zW E (zOK D A (zst E) g ad) k n pc L (zr ad 6 v :: zr ad 6 e :: st) σ := by
  have hd : ∀ j, j < 2 → (F_NA j).1 = R_NA ∧ (F_NA j).2.2.2 = true ∧ t_NA j = .object "CellMapper$Pattern" := by decide +kernel
  subst hfm
  rw [zr_s ad 6 h0]
  refine g_putF (T := F_NA) (ci := 8) (ty := t_NA) (fs := [zr ad 6 (σ 31 e), zr ad 6 (σ 32 e)]) C hin (zids_pat h0 h1) (ct_pat2 h0 hs) rfl i_NA t_NA_ok n_NA hj (hd j hj).1 hlink (hd j hj).2.1 (by rw [(hd j hj).2.2]; exact zr_fit _ _ _ _) (by simpa using hj) (zids_up (by omega) (by omega) (by omega) (by omega)) (fun k' _ _ => zup_f σ e v (by omega)) ?_ (fun u hu hne => ct_pat_ne (by omega) h0 hu hne) d kk
  rw [ct_pat2 h0 (by rw [zup_ne σ e v e (by omega)]; exact hs)]
  rcases (show j = 0 ∨ j = 1 by omega) with rfl | rfl
  · rw [zup_at, zup_ne σ e v e (by decide)]
    rfl
  · rw [zup_at, zup_ne σ e v e (by decide)]
    rfl
theorem x_callIv {y : MethodName} {b : ByteArray} {ml index : Nat} {rm2 : Room} {As st0 : List Value} {na : Nat} {Q : zS → Prop} {P : Prop} {a : Nat} (C : zX E cc own D g rm nl) (S : zSt g A (zst E) (zst E).heap) (hY : zYi y b ml na) (hlink : Cond.methodLink own index y ∈ lw_g) (d : decode cc pc = .ok (.invokespecial index, 3)) (hR : rm2.cells = 0 ∧ rm2.slots = 0 ∧ rm2.frames + 1 ≤ rm.frames ∧ 8 + (ml + 11) + rm2.locals ≤ rm.locals) (hAs : As.length = na) (hs : st0 = As.reverse ++ .ref a :: st) (hst : (st.map fun v => v.category).sum ≤ 8)
    (h : P) (hM : P → zGv (zln E) y b ml none rm2 D g ad σ (.ref a :: As) Q) (kk : ∀ τ, Q τ → zW E (zOK D A (zst E) g ad) k n (pc + 3) L st τ) (hkn : k ≤ rm.cells ∧ n ≤ rm.slots := by exact ⟨Nat.zero_le _, Nat.zero_le _⟩) : zW E (zOK D A (zst E) g ad) k n pc L st0 σ := by
  obtain ⟨p, l, e, R0, s, m, args, below, meth, c, nL, Z⟩ := E
  obtain ⟨⟨hx, hb, hml, hown, hts⟩, hK, hRm, hN⟩ := C
  subst hs
  subst hRm
  intro H locs ls ho hl
  obtain ⟨y1, y2, y3, y4, y5, y6, y7⟩ := hY
  obtain ⟨r1, r2, r3, r4⟩ := hR
  refine va_callv (va_runI (As := As) (rest := st) ⟨hx, hb, hml, hown, hts⟩ (hM h) (cwI na hts (zws_good y b ml none y3) rfl r1 r2 (hts _ y2) (hts _ hlink) (hts _ y1) y4 ⟨y5, y6, y7⟩ ⟨r3, r4⟩) ⟨zPy_blind, fun U hU hW => zPy_at (p := p) hK S ho U hU hW⟩ rfl hAs hl.1 rfl (lv_room hst) d hkn) ho.2.2 (fun q _ h => zAd_sub ho.2.1 h) (fun q h => zAd_sub ho.2.1 h) (fun u t H1 locs1 ht hvm hw hB hz1 hk1 hS1 => ?_)
  exact kk u hw H1 locs1 ls (zB_ok (fun q h => zAd_sub ho.2.1 h) ht hB hS1) hl
theorem x_callINv {y : MethodName} {b : ByteArray} {ml index : Nat} {rm2 : Room} {As st0 : List Value} {na : Nat} {Q : zS → Prop} {P : Prop} {a : Nat} (C : zX E cc R_CX D g rm nl) (S : zSt g A (zst E) (zst E).heap) (hY : zYi y b ml na) (hlink : (R_CX, index, y, R_CX) ∈ zNs) (d : decode cc pc = .ok (.invokespecial index, 3)) (hR : rm2.cells = 0 ∧ rm2.slots = 0 ∧ rm2.frames + 1 ≤ rm.frames ∧ 8 + (ml + 11) + rm2.locals ≤ rm.locals) (hAs : As.length = na) (hs : st0 = As.reverse ++ .ref a :: st) (hst : (st.map fun v => v.category).sum ≤ 8)
    (h : P) (hM : P → zGv (zln E) y b ml none rm2 D g ad σ (.ref a :: As) Q) (kk : ∀ τ, Q τ → zW E (zOK D A (zst E) g ad) k n (pc + 3) L st τ) (hkn : k ≤ rm.cells ∧ n ≤ rm.slots := by exact ⟨Nat.zero_le _, Nat.zero_le _⟩) : zW E (zOK D A (zst E) g ad) k n pc L st0 σ := by
  obtain ⟨p, l, e, R0, s, m, args, below, meth, c, nL, Z⟩ := E
  obtain ⟨⟨hx, hb, hml, hown, hts⟩, hK, hRm, hN⟩ := C
  subst hs
  subst hRm
  intro H locs ls ho hl
  obtain ⟨y1, y2, y3, y4, y5, y6, y7⟩ := hY
  obtain ⟨r1, r2, r3, r4⟩ := hR
  refine va_callv (va_runIN (As := As) (rest := st) ⟨hx, hb, hml, hown, hts⟩ (hM h) ⟨va_cnB na hts (zws_good y b ml none y3) rfl r1 r2 (S.2.2.2.2.1 (R_CX, index, y, R_CX) hlink) (hts _ y2) ⟨y5, y6, y7⟩ ⟨r3, r4⟩, y4, hts _ y1⟩ ⟨zPy_blind, fun U hU hW => zPy_at (p := p) hK S ho U hU hW⟩ rfl hAs hl.1 rfl (lv_room hst) d hkn) ho.2.2 (fun q _ h => zAd_sub ho.2.1 h) (fun q h => zAd_sub ho.2.1 h) (fun u t H1 locs1 ht hvm hw hB hz1 hk1 hS1 => ?_)
  exact kk u hw H1 locs1 ls (zB_ok (fun q h => zAd_sub ho.2.1 h) ht hB hS1) hl
theorem x_objInitZ {index t : Nat} {e : Int} {OK : zS → Heap → List Loc → Prop} (C : zX E cc own D g rm nl) (h0 : 0 ≤ e) (hlink : Cond.methodLink own index objectInit ∈ lw_g) (hR : 1 ≤ rm.frames ∧ 20 ≤ rm.locals) (hst : (st.map fun v => v.category).sum ≤ 8) (d : decode cc pc = .ok (.invokespecial index, 3)) (kk : zW E OK k n (pc + 3) L st σ) : zW E OK k n pc L (zr ad t e :: st) σ := by
  rw [zr_s ad t h0]
  exact x_objInit C hlink hR hst d kk
end ZO
theorem d_RC_init_0 : decode b_RC_init 0 = .ok (.aload_n 0, 1) := by decide +kernel
theorem d_RC_init_1 : decode b_RC_init 1 = .ok (.invokespecial 1, 3) := by decide +kernel
theorem d_RC_init_4 : decode b_RC_init 4 = .ok (.return_, 1) := by decide +kernel
theorem c_RC_init (l : Launch) (D : va_G) (g : zG) (ad : zA) (a : Nat) (Q : zS → Prop) (σ : zS) (h : Q σ) : zGv l y_RC_init b_RC_init 1 none { frames := 1, cells := 0, slots := 0, locals := 20 } D g ad σ [.ref a] Q := by
  refine zN_of (by decide) (Nat.le_of_ble_eq_true rfl) (fun E C R S => ?_)
  refine z_sub (L' := [(0, .ref a)]) [0] rfl ?_
  refine z_aload_n C d_RC_init_0 0 rfl ?_
  refine x_objInit C wd_394 ⟨Nat.le_of_ble_eq_true rfl, Nat.le_of_ble_eq_true rfl⟩ (Nat.le_of_ble_eq_true rfl) (pc := 1) d_RC_init_1 ?_
  exact z_vret C R d_RC_init_4 h
theorem fi_RC_init : zYi y_RC_init b_RC_init 1 0 := ⟨wd_392, wd_17, wc_RC_init, rfl, by decide +kernel, by decide +kernel, by decide +kernel⟩
theorem fi_ND_init : zYi y_ND_init b_ND_init 6 5 := ⟨wd_160, wd_10, wc_ND_init, rfl, by decide +kernel, by decide +kernel, by decide +kernel⟩
theorem fi_CE_init : zYi y_CE_init b_CE_init 7 6 := ⟨wd_425, wd_21, wc_CE_init, rfl, by decide +kernel, by decide +kernel, by decide +kernel⟩
theorem fi_PI_init : zYi y_PI_init b_PI_init 2 1 := ⟨wd_389, wd_18, wc_PI_init, rfl, by decide +kernel, by decide +kernel, by decide +kernel⟩
theorem fi_IN_init : zYi y_IN_init b_IN_init 2 1 := ⟨wd_402, wd_19, wc_IN_init, rfl, by decide +kernel, by decide +kernel, by decide +kernel⟩
theorem fi_NA_init : zYi y_NA_init b_NA_init 3 2 := ⟨wd_412, wd_20, wc_NA_init, rfl, by decide +kernel, by decide +kernel, by decide +kernel⟩
theorem kv_cases (g : zG) (v : Int) : kv g v = .null ∨ kv g v = .ref (g.2.2 v.toNat) := by
  rcases Int.lt_or_le v 0 with h | h
  · exact Or.inl (kv_n g h)
  · exact Or.inr (kv_s g h)
theorem kv_fit (g : zG) (v : Int) (c : String) : narrow (.object c) (kv g v) = kv g v ∧ fits (.object c) (kv g v) = true := by
  rcases kv_cases g v with h | h <;> rw [h] <;> exact ⟨rfl, rfl⟩
section ZQ
variable {E : zE} {k n pc : Nat} {L L' : List (Nat × Value)} {st : List Value} {σ : zS} {cc : ByteArray} {own : String} {D : va_G} {g : zG} {rm : Room} {nl : Nat} {OK : zS → Heap → List Loc → Prop}
theorem z_aloadK_n {j : Fin 4} {x : Int} (C : zX E cc own D g rm nl) (d : decode cc pc = .ok (.aload_n j, 1)) (q : Nat) (hq : L[q]? = some ((j : Nat), kv g x)) (kk : zW E OK k n (pc + 1) L (kv g x :: st) σ) : zW E OK k n pc L st σ := by
  obtain ⟨p, l, e, R, s, m, args, below, meth, c, nL, Z⟩ := E
  obtain ⟨⟨hx, hb, hml, hown, hts⟩, hK, hR, hN⟩ := C
  intro H locs ls ho hl
  have h := lv_at hl q hq
  have kk := kk H locs ls ho hl
  rcases kv_cases g x with e | e <;> rw [e] at h kk
  · exact lv_aload_nN hx hb d rfl h kk
  · exact lv_aload_n hx hb d rfl h kk
theorem z_aloadK {j : Nat} {x : Int} (C : zX E cc own D g rm nl) (d : decode cc pc = .ok (.aload j, 2)) (q : Nat) (hq : L[q]? = some (j, kv g x)) (kk : zW E OK k n (pc + 2) L (kv g x :: st) σ) : zW E OK k n pc L st σ := by
  obtain ⟨p, l, e, R, s, m, args, below, meth, c, nL, Z⟩ := E
  obtain ⟨⟨hx, hb, hml, hown, hts⟩, hK, hR, hN⟩ := C
  intro H locs ls ho hl
  have h := lv_at hl q hq
  have kk := kk H locs ls ho hl
  rcases kv_cases g x with e | e <;> rw [e] at h kk
  · exact lv_aloadN hx hb d h kk
  · exact lv_aload hx hb d h kk
end ZQ
theorem d_ND_init_0 : decode b_ND_init 0 = .ok (.aload_n 0, 1) := by decide +kernel
theorem d_ND_init_1 : decode b_ND_init 1 = .ok (.invokespecial 1, 3) := by decide +kernel
theorem d_ND_init_4 : decode b_ND_init 4 = .ok (.aload_n 0, 1) := by decide +kernel
theorem d_ND_init_5 : decode b_ND_init 5 = .ok (.iload_n 1, 1) := by decide +kernel
theorem d_ND_init_6 : decode b_ND_init 6 = .ok (.putfield 7, 3) := by decide +kernel
theorem d_ND_init_9 : decode b_ND_init 9 = .ok (.aload_n 0, 1) := by decide +kernel
theorem d_ND_init_10 : decode b_ND_init 10 = .ok (.aload_n 2, 1) := by decide +kernel
theorem d_ND_init_11 : decode b_ND_init 11 = .ok (.putfield 13, 3) := by decide +kernel
theorem d_ND_init_14 : decode b_ND_init 14 = .ok (.aload_n 0, 1) := by decide +kernel
theorem d_ND_init_15 : decode b_ND_init 15 = .ok (.aload_n 3, 1) := by decide +kernel
theorem d_ND_init_16 : decode b_ND_init 16 = .ok (.putfield 17, 3) := by decide +kernel
theorem d_ND_init_19 : decode b_ND_init 19 = .ok (.aload_n 0, 1) := by decide +kernel
theorem d_ND_init_20 : decode b_ND_init 20 = .ok (.aload 4, 2) := by decide +kernel
theorem d_ND_init_22 : decode b_ND_init 22 = .ok (.putfield 21, 3) := by decide +kernel
theorem d_ND_init_25 : decode b_ND_init 25 = .ok (.aload_n 0, 1) := by decide +kernel
theorem d_ND_init_26 : decode b_ND_init 26 = .ok (.iload 5, 2) := by decide +kernel
theorem d_ND_init_28 : decode b_ND_init 28 = .ok (.putfield 24, 3) := by decide +kernel
theorem d_ND_init_31 : decode b_ND_init 31 = .ok (.aload_n 0, 1) := by decide +kernel
theorem d_ND_init_32 : decode b_ND_init 32 = .ok (.aload_n 2, 1) := by decide +kernel
theorem d_ND_init_33 : decode b_ND_init 33 = .ok (.getstatic 27, 3) := by decide +kernel
theorem d_ND_init_36 : decode b_ND_init 36 = .ok (.if_acmp .ne 8, 3) := by decide +kernel
theorem d_ND_init_39 : decode b_ND_init 39 = .ok (.iload 5, 2) := by decide +kernel
theorem d_ND_init_41 : decode b_ND_init 41 = .ok (.goto 4, 3) := by decide +kernel
theorem d_ND_init_44 : decode b_ND_init 44 = .ok (.iconst 0, 1) := by decide +kernel
theorem d_ND_init_45 : decode b_ND_init 45 = .ok (.putfield 32, 3) := by decide +kernel
theorem d_ND_init_48 : decode b_ND_init 48 = .ok (.return_, 1) := by decide +kernel
def wp_ND_init (Q : zS → Prop) (v0 : Int) (v1 : Int) (v2 : Int) (v3 : Int) (v4 : Int) (v5 : Int) (σ : zS) : Prop :=
  0 ≤ v0 ∧ v0 < σ 70 0 ∧
  ∀ σ1, σ1 = zup σ 0 v0 v1 →
  ∀ σ2, σ2 = zup σ1 1 v0 v2 →
  ∀ σ3, σ3 = zup σ2 2 v0 v3 →
  ∀ σ4, σ4 = zup σ3 3 v0 v4 →
  ∀ σ5, σ5 = zup σ4 4 v0 v5 →
  0 ≤ v2 ∧ v2 < 4 ∧ ((v2 = 1 →
    ∀ σ9, σ9 = zup σ5 7 v0 v5 →
    Q σ9) ∧
   (¬ v2 = 1 →
    ∀ σ8, σ8 = zup σ5 7 v0 0 →
    Q σ8))
set_option maxHeartbeats 4000000 in
set_option maxRecDepth 100000 in
theorem c_ND_init (l : Launch) (D : va_G) (g : zG) (ad : zA) (v0 : Int) (v1 : Int) (v2 : Int) (v3 : Int) (v4 : Int) (v5 : Int) (Q : zS → Prop) (σ : zS) (h : wp_ND_init Q v0 v1 v2 v3 v4 v5 σ) : zGv l y_ND_init b_ND_init 6 none { frames := 2, cells := 0, slots := 0, locals := 40 } D g ad σ [.ref (ad (4, v0.toNat)), .int (zi v1), kv g v2, zr ad 4 v3, zr ad 4 v4, .int (zi v5)] Q := by
  unfold wp_ND_init at h
  obtain ⟨h0, h1, h⟩ := h
  refine zC_of (by decide) rfl (by simp [lg_sl, zr_cat, kv_cat, cat_i, cat_l, cat_r]) (fun E C R S hin => ?_)
  have C : zX E b_ND_init R_ND D g { frames := 2, cells := 0, slots := 0, locals := 40 } 6 := C
  refine z_sub (L' := [(0, zr ad 4 v0), (1, .int (zi v1)), (2, kv g v2), (3, zr ad 4 v3), (4, zr ad 4 v4), (5, .int (zi v5))]) [0, 1, 2, 3, 4, 5] (by rw [zr_s ad 4 h0]; simp [lv_args, lv_pick, zr_cat, kv_cat, cat_i, cat_l, cat_r]) ?_
  refine z_aloadZ_n C (pc := 0) d_ND_init_0 0 rfl ?_
  refine x_objInitZ C h0 wd_162 ⟨Nat.le_of_ble_eq_true rfl, Nat.le_of_ble_eq_true rfl⟩ (Nat.le_of_ble_eq_true rfl) (pc := 1) d_ND_init_1 ?_
  refine z_aloadZ_n C (pc := 4) d_ND_init_4 0 rfl ?_
  refine z_iload_n C (pc := 5) d_ND_init_5 1 rfl ?_
  refine x_putNF (v := v1) C hin 0 (by decide) h0 h1 rfl ⟨rfl, rfl⟩ wd_165 (pc := 6) d_ND_init_6 ?_
  refine zN h (fun σ1 eσ1 h => ?_)
  refine z_aloadZ_n C (pc := 9) d_ND_init_9 0 rfl ?_
  refine z_aloadK_n C (pc := 10) d_ND_init_10 2 rfl ?_
  refine x_putNF (v := v2) C hin 1 (by decide) h0 (by rw [eσ1]; exact h1) rfl (kv_fit _ _ _) wd_168 (pc := 11) d_ND_init_11 ?_
  refine zN h (fun σ2 eσ2 h => ?_)
  refine z_aloadZ_n C (pc := 14) d_ND_init_14 0 rfl ?_
  refine z_aloadZ_n C (pc := 15) d_ND_init_15 3 rfl ?_
  refine x_putNF (v := v3) C hin 2 (by decide) h0 (by rw [eσ2]; exact (by rw [eσ1]; exact h1)) rfl (zr_fit _ _ _ _) wd_173 (pc := 16) d_ND_init_16 ?_
  refine zN h (fun σ3 eσ3 h => ?_)
  refine z_aloadZ_n C (pc := 19) d_ND_init_19 0 rfl ?_
  refine z_aloadZ C (pc := 20) d_ND_init_20 4 rfl ?_
  refine x_putNF (v := v4) C hin 3 (by decide) h0 (by rw [eσ3]; exact (by rw [eσ2]; exact (by rw [eσ1]; exact h1))) rfl (zr_fit _ _ _ _) wd_178 (pc := 22) d_ND_init_22 ?_
  refine zN h (fun σ4 eσ4 h => ?_)
  refine z_aloadZ_n C (pc := 25) d_ND_init_25 0 rfl ?_
  refine z_iload C (pc := 26) d_ND_init_26 5 rfl ?_
  refine x_putNF (v := v5) C hin 4 (by decide) h0 (by rw [eσ4]; exact (by rw [eσ3]; exact (by rw [eσ2]; exact (by rw [eσ1]; exact h1)))) rfl ⟨rfl, rfl⟩ wd_182 (pc := 28) d_ND_init_28 ?_
  refine zN h (fun σ5 eσ5 h => ?_)
  refine z_aloadZ_n C (pc := 31) d_ND_init_31 0 rfl ?_
  refine z_aloadK_n C (pc := 32) d_ND_init_32 2 rfl ?_
  refine x_gets C S 1 (by decide) (by decide) rfl wd_163 (pc := 33) d_ND_init_33 ?_
  obtain ⟨hc6, hc7, h⟩ := h
  refine x_acmpK_ne (tgt := 44) C S (pc := 36) d_ND_init_36 (by decide) hc6 hc7 (by decide) (by decide) h (fun h => ?_) (fun h => ?_)
  · refine z_iconst C (pc := 44) d_ND_init_44 ?_
    refine x_putN (v := 0) C 7 (by decide) h0 (by rw [eσ5]; exact (by rw [eσ4]; exact (by rw [eσ3]; exact (by rw [eσ2]; exact (by rw [eσ1]; exact h1))))) rfl ⟨rfl, rfl⟩ rfl wd_186 (pc := 45) d_ND_init_45 ?_
    refine zN h (fun σ8 eσ8 h => ?_)
    exact z_vret C R (pc := 48) d_ND_init_48 h
  · refine z_iload C (pc := 39) d_ND_init_39 5 rfl ?_
    refine z_goto (tgt := 45) C (pc := 41) d_ND_init_41 (by decide) ?_
    refine x_putN (v := v5) C 7 (by decide) h0 (by rw [eσ5]; exact (by rw [eσ4]; exact (by rw [eσ3]; exact (by rw [eσ2]; exact (by rw [eσ1]; exact h1))))) rfl ⟨rfl, rfl⟩ rfl wd_186 (pc := 45) d_ND_init_45 ?_
    refine zN h (fun σ9 eσ9 h => ?_)
    exact z_vret C R (pc := 48) d_ND_init_48 h
theorem d_CE_init_0 : decode b_CE_init 0 = .ok (.aload_n 0, 1) := by decide +kernel
theorem d_CE_init_1 : decode b_CE_init 1 = .ok (.invokespecial 1, 3) := by decide +kernel
theorem d_CE_init_4 : decode b_CE_init 4 = .ok (.aload_n 0, 1) := by decide +kernel
theorem d_CE_init_5 : decode b_CE_init 5 = .ok (.iload_n 1, 1) := by decide +kernel
theorem d_CE_init_6 : decode b_CE_init 6 = .ok (.putfield 7, 3) := by decide +kernel
theorem d_CE_init_9 : decode b_CE_init 9 = .ok (.aload_n 0, 1) := by decide +kernel
theorem d_CE_init_10 : decode b_CE_init 10 = .ok (.iload_n 2, 1) := by decide +kernel
theorem d_CE_init_11 : decode b_CE_init 11 = .ok (.putfield 13, 3) := by decide +kernel
theorem d_CE_init_14 : decode b_CE_init 14 = .ok (.aload_n 0, 1) := by decide +kernel
theorem d_CE_init_15 : decode b_CE_init 15 = .ok (.iload_n 3, 1) := by decide +kernel
theorem d_CE_init_16 : decode b_CE_init 16 = .ok (.putfield 16, 3) := by decide +kernel
theorem d_CE_init_19 : decode b_CE_init 19 = .ok (.aload_n 0, 1) := by decide +kernel
theorem d_CE_init_20 : decode b_CE_init 20 = .ok (.iload 4, 2) := by decide +kernel
theorem d_CE_init_22 : decode b_CE_init 22 = .ok (.putfield 19, 3) := by decide +kernel
theorem d_CE_init_25 : decode b_CE_init 25 = .ok (.aload_n 0, 1) := by decide +kernel
theorem d_CE_init_26 : decode b_CE_init 26 = .ok (.iload 5, 2) := by decide +kernel
theorem d_CE_init_28 : decode b_CE_init 28 = .ok (.putfield 22, 3) := by decide +kernel
theorem d_CE_init_31 : decode b_CE_init 31 = .ok (.aload_n 0, 1) := by decide +kernel
theorem d_CE_init_32 : decode b_CE_init 32 = .ok (.aload 6, 2) := by decide +kernel
theorem d_CE_init_34 : decode b_CE_init 34 = .ok (.putfield 25, 3) := by decide +kernel
theorem d_CE_init_37 : decode b_CE_init 37 = .ok (.return_, 1) := by decide +kernel
def wp_CE_init (Q : zS → Prop) (v0 : Int) (v1 : Int) (v2 : Int) (v3 : Int) (v4 : Int) (v5 : Int) (v6 : Int) (σ : zS) : Prop :=
  0 ≤ v0 ∧ v0 < σ 71 0 ∧
  ∀ σ1, σ1 = zup σ 20 v0 v1 →
  ∀ σ2, σ2 = zup σ1 21 v0 v2 →
  ∀ σ3, σ3 = zup σ2 22 v0 v3 →
  ∀ σ4, σ4 = zup σ3 23 v0 v4 →
  ∀ σ5, σ5 = zup σ4 24 v0 v5 →
  ∀ σ6, σ6 = zup σ5 25 v0 v6 →
  Q σ6
set_option maxHeartbeats 4000000 in
set_option maxRecDepth 100000 in
theorem c_CE_init (l : Launch) (D : va_G) (g : zG) (ad : zA) (v0 : Int) (v1 : Int) (v2 : Int) (v3 : Int) (v4 : Int) (v5 : Int) (v6 : Int) (Q : zS → Prop) (σ : zS) (h : wp_CE_init Q v0 v1 v2 v3 v4 v5 v6 σ) : zGv l y_CE_init b_CE_init 7 none { frames := 2, cells := 0, slots := 0, locals := 40 } D g ad σ [.ref (ad (5, v0.toNat)), .int (zi v1), .int (zi v2), .int (zi v3), .int (zi v4), .int (zi v5), zr ad 6 v6] Q := by
  unfold wp_CE_init at h
  obtain ⟨h0, h1, h⟩ := h
  refine zC_of (by decide) rfl (by simp [lg_sl, zr_cat, kv_cat, cat_i, cat_l, cat_r]) (fun E C R S hin => ?_)
  have C : zX E b_CE_init R_CE D g { frames := 2, cells := 0, slots := 0, locals := 40 } 7 := C
  refine z_sub (L' := [(0, zr ad 5 v0), (1, .int (zi v1)), (2, .int (zi v2)), (3, .int (zi v3)), (4, .int (zi v4)), (5, .int (zi v5)), (6, zr ad 6 v6)]) [0, 1, 2, 3, 4, 5, 6] (by rw [zr_s ad 5 h0]; simp [lv_args, lv_pick, zr_cat, kv_cat, cat_i, cat_l, cat_r]) ?_
  refine z_aloadZ_n C (pc := 0) d_CE_init_0 0 rfl ?_
  refine x_objInitZ C h0 wd_427 ⟨Nat.le_of_ble_eq_true rfl, Nat.le_of_ble_eq_true rfl⟩ (Nat.le_of_ble_eq_true rfl) (pc := 1) d_CE_init_1 ?_
  refine z_aloadZ_n C (pc := 4) d_CE_init_4 0 rfl ?_
  refine z_iload_n C (pc := 5) d_CE_init_5 1 rfl ?_
  refine x_putCF (v := v1) C hin 0 20 rfl (by decide) h0 h1 rfl ⟨rfl, rfl⟩ wd_428 (pc := 6) d_CE_init_6 ?_
  refine zN h (fun σ1 eσ1 h => ?_)
  refine z_aloadZ_n C (pc := 9) d_CE_init_9 0 rfl ?_
  refine z_iload_n C (pc := 10) d_CE_init_10 2 rfl ?_
  refine x_putCF (v := v2) C hin 1 21 rfl (by decide) h0 (by rw [eσ1]; exact h1) rfl ⟨rfl, rfl⟩ wd_430 (pc := 11) d_CE_init_11 ?_
  refine zN h (fun σ2 eσ2 h => ?_)
  refine z_aloadZ_n C (pc := 14) d_CE_init_14 0 rfl ?_
  refine z_iload_n C (pc := 15) d_CE_init_15 3 rfl ?_
  refine x_putCF (v := v3) C hin 2 22 rfl (by decide) h0 (by rw [eσ2]; exact (by rw [eσ1]; exact h1)) rfl ⟨rfl, rfl⟩ wd_432 (pc := 16) d_CE_init_16 ?_
  refine zN h (fun σ3 eσ3 h => ?_)
  refine z_aloadZ_n C (pc := 19) d_CE_init_19 0 rfl ?_
  refine z_iload C (pc := 20) d_CE_init_20 4 rfl ?_
  refine x_putCF (v := v4) C hin 3 23 rfl (by decide) h0 (by rw [eσ3]; exact (by rw [eσ2]; exact (by rw [eσ1]; exact h1))) rfl ⟨rfl, rfl⟩ wd_434 (pc := 22) d_CE_init_22 ?_
  refine zN h (fun σ4 eσ4 h => ?_)
  refine z_aloadZ_n C (pc := 25) d_CE_init_25 0 rfl ?_
  refine z_iload C (pc := 26) d_CE_init_26 5 rfl ?_
  refine x_putCF (v := v5) C hin 4 24 rfl (by decide) h0 (by rw [eσ4]; exact (by rw [eσ3]; exact (by rw [eσ2]; exact (by rw [eσ1]; exact h1)))) rfl ⟨rfl, rfl⟩ wd_436 (pc := 28) d_CE_init_28 ?_
  refine zN h (fun σ5 eσ5 h => ?_)
  refine z_aloadZ_n C (pc := 31) d_CE_init_31 0 rfl ?_
  refine z_aloadZ C (pc := 32) d_CE_init_32 6 rfl ?_
  refine x_putCF (v := v6) C hin 5 25 rfl (by decide) h0 (by rw [eσ5]; exact (by rw [eσ4]; exact (by rw [eσ3]; exact (by rw [eσ2]; exact (by rw [eσ1]; exact h1))))) rfl (zr_fit _ _ _ _) wd_438 (pc := 34) d_CE_init_34 ?_
  refine zN h (fun σ6 eσ6 h => ?_)
  exact z_vret C R (pc := 37) d_CE_init_37 h
theorem d_PI_init_0 : decode b_PI_init 0 = .ok (.aload_n 0, 1) := by decide +kernel
theorem d_PI_init_1 : decode b_PI_init 1 = .ok (.invokespecial 1, 3) := by decide +kernel
theorem d_PI_init_4 : decode b_PI_init 4 = .ok (.aload_n 0, 1) := by decide +kernel
theorem d_PI_init_5 : decode b_PI_init 5 = .ok (.iload_n 1, 1) := by decide +kernel
theorem d_PI_init_6 : decode b_PI_init 6 = .ok (.putfield 7, 3) := by decide +kernel
theorem d_PI_init_9 : decode b_PI_init 9 = .ok (.return_, 1) := by decide +kernel
def wp_PI_init (Q : zS → Prop) (v0 : Int) (v1 : Int) (σ : zS) : Prop :=
  0 ≤ v0 ∧ v0 < σ 72 0 ∧
  σ 30 v0 = 0 ∧ ∀ σ1, σ1 = zup σ 31 v0 v1 →
  Q σ1
set_option maxHeartbeats 4000000 in
set_option maxRecDepth 100000 in
theorem c_PI_init (l : Launch) (D : va_G) (g : zG) (ad : zA) (v0 : Int) (v1 : Int) (Q : zS → Prop) (σ : zS) (h : wp_PI_init Q v0 v1 σ) : zGv l y_PI_init b_PI_init 2 none { frames := 2, cells := 0, slots := 0, locals := 40 } D g ad σ [.ref (ad (6, v0.toNat)), .int (zi v1)] Q := by
  unfold wp_PI_init at h
  obtain ⟨h0, h1, h⟩ := h
  refine zC_of (by decide) rfl (by simp [lg_sl, zr_cat, kv_cat, cat_i, cat_l, cat_r]) (fun E C R S hin => ?_)
  have C : zX E b_PI_init R_PI D g { frames := 2, cells := 0, slots := 0, locals := 40 } 2 := C
  refine z_sub (L' := [(0, zr ad 6 v0), (1, .int (zi v1))]) [0, 1] (by rw [zr_s ad 6 h0]; simp [lv_args, lv_pick, zr_cat, kv_cat, cat_i, cat_l, cat_r]) ?_
  refine z_aloadZ_n C (pc := 0) d_PI_init_0 0 rfl ?_
  refine x_callIv (As := []) (Q := fun τ => τ = σ) (P := True) (a := ad (6, v0.toNat)) C S fi_RC_init wd_391 (pc := 1) d_PI_init_1 ⟨rfl, rfl, Nat.le_of_ble_eq_true rfl, Nat.le_of_ble_eq_true rfl⟩ rfl (by rw [zr_s ad 6 h0]; rfl) (Nat.le_of_ble_eq_true rfl) trivial (fun _ => c_RC_init (zln E) D g ad _ _ σ rfl) (fun τ h9 => ?_)
  subst h9
  refine z_aloadZ_n C (pc := 4) d_PI_init_4 0 rfl ?_
  refine z_iload_n C (pc := 5) d_PI_init_5 1 rfl ?_
  obtain ⟨hc2, h⟩ := h
  refine x_putP0F C hin h0 h1 hc2 wd_395 (pc := 6) d_PI_init_6 ?_
  refine zN h (fun σ1 eσ1 h => ?_)
  exact z_vret C R (pc := 9) d_PI_init_9 h
theorem d_IN_init_0 : decode b_IN_init 0 = .ok (.aload_n 0, 1) := by decide +kernel
theorem d_IN_init_1 : decode b_IN_init 1 = .ok (.invokespecial 3, 3) := by decide +kernel
theorem d_IN_init_4 : decode b_IN_init 4 = .ok (.aload_n 0, 1) := by decide +kernel
theorem d_IN_init_5 : decode b_IN_init 5 = .ok (.aload_n 1, 1) := by decide +kernel
theorem d_IN_init_6 : decode b_IN_init 6 = .ok (.putfield 9, 3) := by decide +kernel
theorem d_IN_init_9 : decode b_IN_init 9 = .ok (.return_, 1) := by decide +kernel
def wp_IN_init (Q : zS → Prop) (v0 : Int) (v1 : Int) (σ : zS) : Prop :=
  0 ≤ v0 ∧ v0 < σ 72 0 ∧
  σ 30 v0 = 1 ∧ ∀ σ1, σ1 = zup σ 31 v0 v1 →
  Q σ1
set_option maxHeartbeats 4000000 in
set_option maxRecDepth 100000 in
theorem c_IN_init (l : Launch) (D : va_G) (g : zG) (ad : zA) (v0 : Int) (v1 : Int) (Q : zS → Prop) (σ : zS) (h : wp_IN_init Q v0 v1 σ) : zGv l y_IN_init b_IN_init 2 none { frames := 2, cells := 0, slots := 0, locals := 40 } D g ad σ [.ref (ad (6, v0.toNat)), zr ad 6 v1] Q := by
  unfold wp_IN_init at h
  obtain ⟨h0, h1, h⟩ := h
  refine zC_of (by decide) rfl (by simp [lg_sl, zr_cat, kv_cat, cat_i, cat_l, cat_r]) (fun E C R S hin => ?_)
  have C : zX E b_IN_init R_IN D g { frames := 2, cells := 0, slots := 0, locals := 40 } 2 := C
  refine z_sub (L' := [(0, zr ad 6 v0), (1, zr ad 6 v1)]) [0, 1] (by rw [zr_s ad 6 h0]; simp [lv_args, lv_pick, zr_cat, kv_cat, cat_i, cat_l, cat_r]) ?_
  refine z_aloadZ_n C (pc := 0) d_IN_init_0 0 rfl ?_
  refine x_callIv (As := []) (Q := fun τ => τ = σ) (P := True) (a := ad (6, v0.toNat)) C S fi_RC_init wd_404 (pc := 1) d_IN_init_1 ⟨rfl, rfl, Nat.le_of_ble_eq_true rfl, Nat.le_of_ble_eq_true rfl⟩ rfl (by rw [zr_s ad 6 h0]; rfl) (Nat.le_of_ble_eq_true rfl) trivial (fun _ => c_RC_init (zln E) D g ad _ _ σ rfl) (fun τ h9 => ?_)
  subst h9
  refine z_aloadZ_n C (pc := 4) d_IN_init_4 0 rfl ?_
  refine z_aloadZ_n C (pc := 5) d_IN_init_5 1 rfl ?_
  obtain ⟨hc2, h⟩ := h
  refine x_putP1F C hin h0 h1 hc2 wd_405 (pc := 6) d_IN_init_6 ?_
  refine zN h (fun σ1 eσ1 h => ?_)
  exact z_vret C R (pc := 9) d_IN_init_9 h
theorem d_NA_init_0 : decode b_NA_init 0 = .ok (.aload_n 0, 1) := by decide +kernel
theorem d_NA_init_1 : decode b_NA_init 1 = .ok (.invokespecial 3, 3) := by decide +kernel
theorem d_NA_init_4 : decode b_NA_init 4 = .ok (.aload_n 0, 1) := by decide +kernel
theorem d_NA_init_5 : decode b_NA_init 5 = .ok (.aload_n 1, 1) := by decide +kernel
theorem d_NA_init_6 : decode b_NA_init 6 = .ok (.putfield 9, 3) := by decide +kernel
theorem d_NA_init_9 : decode b_NA_init 9 = .ok (.aload_n 0, 1) := by decide +kernel
theorem d_NA_init_10 : decode b_NA_init 10 = .ok (.aload_n 2, 1) := by decide +kernel
theorem d_NA_init_11 : decode b_NA_init 11 = .ok (.putfield 15, 3) := by decide +kernel
theorem d_NA_init_14 : decode b_NA_init 14 = .ok (.return_, 1) := by decide +kernel
def wp_NA_init (Q : zS → Prop) (v0 : Int) (v1 : Int) (v2 : Int) (σ : zS) : Prop :=
  0 ≤ v0 ∧ v0 < σ 72 0 ∧
  σ 30 v0 = 2 ∧ ∀ σ1, σ1 = zup σ 31 v0 v1 →
  σ1 30 v0 = 2 ∧ ∀ σ3, σ3 = zup σ1 32 v0 v2 →
  Q σ3
set_option maxHeartbeats 4000000 in
set_option maxRecDepth 100000 in
theorem c_NA_init (l : Launch) (D : va_G) (g : zG) (ad : zA) (v0 : Int) (v1 : Int) (v2 : Int) (Q : zS → Prop) (σ : zS) (h : wp_NA_init Q v0 v1 v2 σ) : zGv l y_NA_init b_NA_init 3 none { frames := 2, cells := 0, slots := 0, locals := 40 } D g ad σ [.ref (ad (6, v0.toNat)), zr ad 6 v1, zr ad 6 v2] Q := by
  unfold wp_NA_init at h
  obtain ⟨h0, h1, h⟩ := h
  refine zC_of (by decide) rfl (by simp [lg_sl, zr_cat, kv_cat, cat_i, cat_l, cat_r]) (fun E C R S hin => ?_)
  have C : zX E b_NA_init R_NA D g { frames := 2, cells := 0, slots := 0, locals := 40 } 3 := C
  refine z_sub (L' := [(0, zr ad 6 v0), (1, zr ad 6 v1), (2, zr ad 6 v2)]) [0, 1, 2] (by rw [zr_s ad 6 h0]; simp [lv_args, lv_pick, zr_cat, kv_cat, cat_i, cat_l, cat_r]) ?_
  refine z_aloadZ_n C (pc := 0) d_NA_init_0 0 rfl ?_
  refine x_callIv (As := []) (Q := fun τ => τ = σ) (P := True) (a := ad (6, v0.toNat)) C S fi_RC_init wd_414 (pc := 1) d_NA_init_1 ⟨rfl, rfl, Nat.le_of_ble_eq_true rfl, Nat.le_of_ble_eq_true rfl⟩ rfl (by rw [zr_s ad 6 h0]; rfl) (Nat.le_of_ble_eq_true rfl) trivial (fun _ => c_RC_init (zln E) D g ad _ _ σ rfl) (fun τ h9 => ?_)
  subst h9
  refine z_aloadZ_n C (pc := 4) d_NA_init_4 0 rfl ?_
  refine z_aloadZ_n C (pc := 5) d_NA_init_5 1 rfl ?_
  obtain ⟨hc2, h⟩ := h
  refine x_putP2F C hin 0 31 rfl (by decide) h0 h1 hc2 wd_415 (pc := 6) d_NA_init_6 ?_
  refine zN h (fun σ1 eσ1 h => ?_)
  refine z_aloadZ_n C (pc := 9) d_NA_init_9 0 rfl ?_
  refine z_aloadZ_n C (pc := 10) d_NA_init_10 2 rfl ?_
  obtain ⟨hc4, h⟩ := h
  refine x_putP2F C hin 1 32 rfl (by decide) h0 (by rw [eσ1]; exact h1) hc4 wd_416 (pc := 11) d_NA_init_11 ?_
  refine zN h (fun σ3 eσ3 h => ?_)
  exact z_vret C R (pc := 14) d_NA_init_14 h
