/-! patterns: calls through the interface, by depth -/
def rmI (d : Nat) : Room := { frames := 3 * d, cells := 0, slots := 0, locals := 100 * d }
def rmS (d : Nat) : Room := { frames := 3 * d + 1, cells := 0, slots := 0, locals := 100 * d + 30 }
theorem z_recvP {D : va_G} {g : zG} {ad : zA} {σ : zS} {s : State} {H : Heap} {e : Int} {ci N : Nat} {fs : List Value} {Cn : String} {T : u_T} (hK : va_K D classes (ztys g) s) (hP : zP D g ad σ H) (h0 : 0 ≤ e) (h1 : e < σ 72 0) (hct : ct g ad σ (6, e.toNat) = .inr (ci, fs)) (hc : classes[ci]? = some (Cn, T, N)) : (∃ cell : Cell, H[ad (6, e.toNat)]? = some cell ∧ cell.vm.isStatics = false ∧ s.vm.findClass Cn = some cell.cls) ∧ ClassAt s Cn (D.1 ci) := by
  obtain ⟨q, -, hq⟩ := gw_get (ad := ad) (ct := ct g ad σ) (zids_pat (σ := σ) h0 h1)
  exact ⟨va_recv hK hP (ci := ci) hc (hq.trans (by rw [hct])), (hK.1 ci (Cn, T, N) hc).2⟩
def zDlay (K : (Int → zS → Prop) → Int → Int → Int → zS → Prop) (d : Nat) : Prop := ∀ (l : Launch) (D : va_G) (g : zG) (ad : zA) (Q : Int → zS → Prop) (e n top : Int) (σ : zS), K Q e n top σ → 0 ≤ e ∧ e < σ 72 0 ∧ ((σ 30 e = 0 ∧ zGi l y_PI_lay b_PI_lay 3 (some .int) (rmI d) D g ad σ [.ref (ad (6, e.toNat)), zr ad 4 n, .int (zi top)] Q) ∨ (σ 30 e = 1 ∧ zGi l y_IN_lay b_IN_lay 3 (some .int) (rmI d) D g ad σ [.ref (ad (6, e.toNat)), zr ad 4 n, .int (zi top)] Q) ∨ (σ 30 e = 2 ∧ zGi l y_NA_lay b_NA_lay 3 (some .int) (rmI d) D g ad σ [.ref (ad (6, e.toNat)), zr ad 4 n, .int (zi top)] Q))
theorem x_callF_lay {E : zE} {pc : Nat} {L : List (Nat × Value)} {st : List Value} {σ : zS} {cc : ByteArray} {own : String} {D : va_G} {g : zG} {rm : Room} {nl : Nat} {A : Nat → Prop} {ad : zA} {K : (Int → zS → Prop) → Int → Int → Int → zS → Prop} {d index : Nat} {Q : Int → zS → Prop} {As st0 : List Value} {e n top : Int} (C : zX E cc own D g rm nl) (S : zSt g A (zst E) (zst E).heap) (hlink : Cond.methodLink own index x_lay ∈ lw_g) (dd : decode cc pc = .ok (.invokeinterface index 3, 5)) (hR : (rmI d).frames + 1 ≤ rm.frames ∧ 8 + (3 + 11) + (rmI d).locals ≤ rm.locals) (hs : st0 = [zr ad 4 n, .int (zi top)].reverse ++ zr ad 6 e :: st) (hst : (st.map fun v => v.category).sum ≤ 8) (h : K Q e n top σ) (hKd : zDlay K d) (kk : ∀ r τ, Q r τ → zW E (zOK D A (zst E) g ad) 0 0 (pc + 5) L (.int (zi r) :: st) τ) (hAs : As = [zr ad 4 n, .int (zi top)] := by rfl) : zW E (zOK D A (zst E) g ad) 0 0 pc L st0 σ := by
  obtain ⟨h0, h1, hM⟩ := hKd (zln E) D g ad Q e n top σ h
  obtain ⟨p, l, e', R0, s, m, args, below, meth, c, nL, Z⟩ := E
  obtain ⟨⟨hx, hb, hml, hown, hts⟩, hK, hRm, hN⟩ := C
  subst hRm
  rw [zr_s ad 6 h0] at hs
  subst hs
  intro H locs ls ho hl
  obtain ⟨q1, q2⟩ := hR
  rcases hM with ⟨hs, hM⟩ | ⟨hs, hM⟩ | ⟨hs, hM⟩
  · obtain ⟨hrc, hat⟩ := z_recvP (ci := 6) (N := 1) (T := F_PI) (Cn := R_PI) hK ho.1 h0 h1 (ct_pat0 h0 hs) rfl
    have w1 : Cond.selects R_PI x_lay y_PI_lay ∈ lw_g := List.mem_filter.mpr ⟨List.mem_append_right _ (List.mem_of_getElem? (i := 532) (by decide +kernel)), rfl⟩
    have w2 : Cond.instanceMethod y_PI_lay ∈ lw_g := wd_534
    have w3 : Cond.initialized R_PI ∈ lw_g := wd_18
    have hG : GoodIn lw_g (va_wsF own index R_PI x_lay y_PI_lay (zws y_PI_lay b_PI_lay 3 (some .int))) := by
      intro w hw
      simp only [va_wsF, List.mem_append, List.mem_cons, List.not_mem_nil, or_false] at hw
      rcases hw with (rfl | rfl | rfl | rfl) | hw
      · exact ⟨hlink, lw_good _ hlink⟩
      · exact ⟨w1, lw_good _ w1⟩
      · exact ⟨w2, lw_good _ w2⟩
      · exact ⟨w3, lw_good _ w3⟩
      · exact zws_good _ _ _ _ wc_PI_lay w hw
    refine va_callFi (va_runF (As := [zr ad 4 n, .int (zi top)]) (rest := st) hat ⟨hx, hb, hml, hown, hts⟩ hM (va_cwF 2 hts hG rfl rfl rfl (S.2.2.2.1 (R_PI, x_lay, y_PI_lay) (by simp [zFw])) ⟨by decide, by decide, by decide +kernel⟩ ⟨q1, by omega⟩) ⟨zPy_blind, hrc, fun U hU hW => zPy_at (p := p) hK S ho U hU hW⟩ rfl rfl hl.1 rfl (lv_room hst) dd ⟨Nat.zero_le _, Nat.zero_le _⟩) ho.2.2 (fun q _ h => zAd_sub ho.2.1 h) (fun q h => zAd_sub ho.2.1 h) (fun r u t H1 locs1 ht hvm hw hB hz1 hk1 hS1 => ?_)
    obtain ⟨z, rfl, hq⟩ := hw
    exact kk z u hq H1 locs1 ls (zB_ok (fun q h => zAd_sub ho.2.1 h) ht hB hS1) hl
  · obtain ⟨hrc, hat⟩ := z_recvP (ci := 7) (N := 1) (T := F_IN) (Cn := R_IN) hK ho.1 h0 h1 (ct_pat1 h0 hs) rfl
    have w1 : Cond.selects R_IN x_lay y_IN_lay ∈ lw_g := List.mem_filter.mpr ⟨List.mem_append_right _ (List.mem_of_getElem? (i := 502) (by decide +kernel)), rfl⟩
    have w2 : Cond.instanceMethod y_IN_lay ∈ lw_g := wd_504
    have w3 : Cond.initialized R_IN ∈ lw_g := wd_19
    have hG : GoodIn lw_g (va_wsF own index R_IN x_lay y_IN_lay (zws y_IN_lay b_IN_lay 3 (some .int))) := by
      intro w hw
      simp only [va_wsF, List.mem_append, List.mem_cons, List.not_mem_nil, or_false] at hw
      rcases hw with (rfl | rfl | rfl | rfl) | hw
      · exact ⟨hlink, lw_good _ hlink⟩
      · exact ⟨w1, lw_good _ w1⟩
      · exact ⟨w2, lw_good _ w2⟩
      · exact ⟨w3, lw_good _ w3⟩
      · exact zws_good _ _ _ _ wc_IN_lay w hw
    refine va_callFi (va_runF (As := [zr ad 4 n, .int (zi top)]) (rest := st) hat ⟨hx, hb, hml, hown, hts⟩ hM (va_cwF 2 hts hG rfl rfl rfl (S.2.2.2.1 (R_IN, x_lay, y_IN_lay) (by simp [zFw])) ⟨by decide, by decide, by decide +kernel⟩ ⟨q1, by omega⟩) ⟨zPy_blind, hrc, fun U hU hW => zPy_at (p := p) hK S ho U hU hW⟩ rfl rfl hl.1 rfl (lv_room hst) dd ⟨Nat.zero_le _, Nat.zero_le _⟩) ho.2.2 (fun q _ h => zAd_sub ho.2.1 h) (fun q h => zAd_sub ho.2.1 h) (fun r u t H1 locs1 ht hvm hw hB hz1 hk1 hS1 => ?_)
    obtain ⟨z, rfl, hq⟩ := hw
    exact kk z u hq H1 locs1 ls (zB_ok (fun q h => zAd_sub ho.2.1 h) ht hB hS1) hl
  · obtain ⟨hrc, hat⟩ := z_recvP (ci := 8) (N := 2) (T := F_NA) (Cn := R_NA) hK ho.1 h0 h1 (ct_pat2 h0 hs) rfl
    have w1 : Cond.selects R_NA x_lay y_NA_lay ∈ lw_g := List.mem_filter.mpr ⟨List.mem_append_right _ (List.mem_of_getElem? (i := 517) (by decide +kernel)), rfl⟩
    have w2 : Cond.instanceMethod y_NA_lay ∈ lw_g := wd_519
    have w3 : Cond.initialized R_NA ∈ lw_g := wd_20
    have hG : GoodIn lw_g (va_wsF own index R_NA x_lay y_NA_lay (zws y_NA_lay b_NA_lay 3 (some .int))) := by
      intro w hw
      simp only [va_wsF, List.mem_append, List.mem_cons, List.not_mem_nil, or_false] at hw
      rcases hw with (rfl | rfl | rfl | rfl) | hw
      · exact ⟨hlink, lw_good _ hlink⟩
      · exact ⟨w1, lw_good _ w1⟩
      · exact ⟨w2, lw_good _ w2⟩
      · exact ⟨w3, lw_good _ w3⟩
      · exact zws_good _ _ _ _ wc_NA_lay w hw
    refine va_callFi (va_runF (As := [zr ad 4 n, .int (zi top)]) (rest := st) hat ⟨hx, hb, hml, hown, hts⟩ hM (va_cwF 2 hts hG rfl rfl rfl (S.2.2.2.1 (R_NA, x_lay, y_NA_lay) (by simp [zFw])) ⟨by decide, by decide, by decide +kernel⟩ ⟨q1, by omega⟩) ⟨zPy_blind, hrc, fun U hU hW => zPy_at (p := p) hK S ho U hU hW⟩ rfl rfl hl.1 rfl (lv_room hst) dd ⟨Nat.zero_le _, Nat.zero_le _⟩) ho.2.2 (fun q _ h => zAd_sub ho.2.1 h) (fun q h => zAd_sub ho.2.1 h) (fun r u t H1 locs1 ht hvm hw hB hz1 hk1 hS1 => ?_)
    obtain ⟨z, rfl, hq⟩ := hw
    exact kk z u hq H1 locs1 ls (zB_ok (fun q h => zAd_sub ho.2.1 h) ht hB hS1) hl
def zDbind (K : (zS → Prop) → Int → Int → Int → zS → Prop) (d : Nat) : Prop := ∀ (l : Launch) (D : va_G) (g : zG) (ad : zA) (Q : zS → Prop) (e n base : Int) (σ : zS), K Q e n base σ → 0 ≤ e ∧ e < σ 72 0 ∧ ((σ 30 e = 0 ∧ zGv l y_PI_bind b_PI_bind 4 none (rmI d) D g ad σ [.ref (ad (6, e.toNat)), zr ad 4 n, .ref (ad (3, 0)), .int (zi base)] Q) ∨ (σ 30 e = 1 ∧ zGv l y_IN_bind b_IN_bind 4 none (rmI d) D g ad σ [.ref (ad (6, e.toNat)), zr ad 4 n, .ref (ad (3, 0)), .int (zi base)] Q) ∨ (σ 30 e = 2 ∧ zGv l y_NA_bind b_NA_bind 5 none (rmI d) D g ad σ [.ref (ad (6, e.toNat)), zr ad 4 n, .ref (ad (3, 0)), .int (zi base)] Q))
theorem x_callF_bind {E : zE} {pc : Nat} {L : List (Nat × Value)} {st : List Value} {σ : zS} {cc : ByteArray} {own : String} {D : va_G} {g : zG} {rm : Room} {nl : Nat} {A : Nat → Prop} {ad : zA} {K : (zS → Prop) → Int → Int → Int → zS → Prop} {d index : Nat} {Q : zS → Prop} {As st0 : List Value} {e n base : Int} (C : zX E cc own D g rm nl) (S : zSt g A (zst E) (zst E).heap) (hlink : Cond.methodLink own index x_bind ∈ lw_g) (dd : decode cc pc = .ok (.invokeinterface index 4, 5)) (hR : (rmI d).frames + 1 ≤ rm.frames ∧ 8 + (5 + 11) + (rmI d).locals ≤ rm.locals) (hs : st0 = [zr ad 4 n, .ref (ad (3, 0)), .int (zi base)].reverse ++ zr ad 6 e :: st) (hst : (st.map fun v => v.category).sum ≤ 8) (h : K Q e n base σ) (hKd : zDbind K d) (kk : ∀ τ, Q τ → zW E (zOK D A (zst E) g ad) 0 0 (pc + 5) L st τ) (hAs : As = [zr ad 4 n, .ref (ad (3, 0)), .int (zi base)] := by rfl) : zW E (zOK D A (zst E) g ad) 0 0 pc L st0 σ := by
  obtain ⟨h0, h1, hM⟩ := hKd (zln E) D g ad Q e n base σ h
  obtain ⟨p, l, e', R0, s, m, args, below, meth, c, nL, Z⟩ := E
  obtain ⟨⟨hx, hb, hml, hown, hts⟩, hK, hRm, hN⟩ := C
  subst hRm
  rw [zr_s ad 6 h0] at hs
  subst hs
  intro H locs ls ho hl
  obtain ⟨q1, q2⟩ := hR
  rcases hM with ⟨hs, hM⟩ | ⟨hs, hM⟩ | ⟨hs, hM⟩
  · obtain ⟨hrc, hat⟩ := z_recvP (ci := 6) (N := 1) (T := F_PI) (Cn := R_PI) hK ho.1 h0 h1 (ct_pat0 h0 hs) rfl
    have w1 : Cond.selects R_PI x_bind y_PI_bind ∈ lw_g := List.mem_filter.mpr ⟨List.mem_append_right _ (List.mem_of_getElem? (i := 571) (by decide +kernel)), rfl⟩
    have w2 : Cond.instanceMethod y_PI_bind ∈ lw_g := wd_573
    have w3 : Cond.initialized R_PI ∈ lw_g := wd_18
    have hG : GoodIn lw_g (va_wsF own index R_PI x_bind y_PI_bind (zws y_PI_bind b_PI_bind 4 none)) := by
      intro w hw
      simp only [va_wsF, List.mem_append, List.mem_cons, List.not_mem_nil, or_false] at hw
      rcases hw with (rfl | rfl | rfl | rfl) | hw
      · exact ⟨hlink, lw_good _ hlink⟩
      · exact ⟨w1, lw_good _ w1⟩
      · exact ⟨w2, lw_good _ w2⟩
      · exact ⟨w3, lw_good _ w3⟩
      · exact zws_good _ _ _ _ wc_PI_bind w hw
    refine va_callFv (va_runF (As := [zr ad 4 n, .ref (ad (3, 0)), .int (zi base)]) (rest := st) hat ⟨hx, hb, hml, hown, hts⟩ hM (va_cwF 3 hts hG rfl rfl rfl (S.2.2.2.1 (R_PI, x_bind, y_PI_bind) (by simp [zFw])) ⟨by decide, by decide, by decide +kernel⟩ ⟨q1, by omega⟩) ⟨zPy_blind, hrc, fun U hU hW => zPy_at (p := p) hK S ho U hU hW⟩ rfl rfl hl.1 rfl (lv_room hst) dd ⟨Nat.zero_le _, Nat.zero_le _⟩) ho.2.2 (fun q _ h => zAd_sub ho.2.1 h) (fun q h => zAd_sub ho.2.1 h) (fun u t H1 locs1 ht hvm hw hB hz1 hk1 hS1 => ?_)
    exact kk u hw H1 locs1 ls (zB_ok (fun q h => zAd_sub ho.2.1 h) ht hB hS1) hl
  · obtain ⟨hrc, hat⟩ := z_recvP (ci := 7) (N := 1) (T := F_IN) (Cn := R_IN) hK ho.1 h0 h1 (ct_pat1 h0 hs) rfl
    have w1 : Cond.selects R_IN x_bind y_IN_bind ∈ lw_g := List.mem_filter.mpr ⟨List.mem_append_right _ (List.mem_of_getElem? (i := 557) (by decide +kernel)), rfl⟩
    have w2 : Cond.instanceMethod y_IN_bind ∈ lw_g := wd_559
    have w3 : Cond.initialized R_IN ∈ lw_g := wd_19
    have hG : GoodIn lw_g (va_wsF own index R_IN x_bind y_IN_bind (zws y_IN_bind b_IN_bind 4 none)) := by
      intro w hw
      simp only [va_wsF, List.mem_append, List.mem_cons, List.not_mem_nil, or_false] at hw
      rcases hw with (rfl | rfl | rfl | rfl) | hw
      · exact ⟨hlink, lw_good _ hlink⟩
      · exact ⟨w1, lw_good _ w1⟩
      · exact ⟨w2, lw_good _ w2⟩
      · exact ⟨w3, lw_good _ w3⟩
      · exact zws_good _ _ _ _ wc_IN_bind w hw
    refine va_callFv (va_runF (As := [zr ad 4 n, .ref (ad (3, 0)), .int (zi base)]) (rest := st) hat ⟨hx, hb, hml, hown, hts⟩ hM (va_cwF 3 hts hG rfl rfl rfl (S.2.2.2.1 (R_IN, x_bind, y_IN_bind) (by simp [zFw])) ⟨by decide, by decide, by decide +kernel⟩ ⟨q1, by omega⟩) ⟨zPy_blind, hrc, fun U hU hW => zPy_at (p := p) hK S ho U hU hW⟩ rfl rfl hl.1 rfl (lv_room hst) dd ⟨Nat.zero_le _, Nat.zero_le _⟩) ho.2.2 (fun q _ h => zAd_sub ho.2.1 h) (fun q h => zAd_sub ho.2.1 h) (fun u t H1 locs1 ht hvm hw hB hz1 hk1 hS1 => ?_)
    exact kk u hw H1 locs1 ls (zB_ok (fun q h => zAd_sub ho.2.1 h) ht hB hS1) hl
  · obtain ⟨hrc, hat⟩ := z_recvP (ci := 8) (N := 2) (T := F_NA) (Cn := R_NA) hK ho.1 h0 h1 (ct_pat2 h0 hs) rfl
    have w1 : Cond.selects R_NA x_bind y_NA_bind ∈ lw_g := List.mem_filter.mpr ⟨List.mem_append_right _ (List.mem_of_getElem? (i := 564) (by decide +kernel)), rfl⟩
    have w2 : Cond.instanceMethod y_NA_bind ∈ lw_g := wd_566
    have w3 : Cond.initialized R_NA ∈ lw_g := wd_20
    have hG : GoodIn lw_g (va_wsF own index R_NA x_bind y_NA_bind (zws y_NA_bind b_NA_bind 5 none)) := by
      intro w hw
      simp only [va_wsF, List.mem_append, List.mem_cons, List.not_mem_nil, or_false] at hw
      rcases hw with (rfl | rfl | rfl | rfl) | hw
      · exact ⟨hlink, lw_good _ hlink⟩
      · exact ⟨w1, lw_good _ w1⟩
      · exact ⟨w2, lw_good _ w2⟩
      · exact ⟨w3, lw_good _ w3⟩
      · exact zws_good _ _ _ _ wc_NA_bind w hw
    refine va_callFv (va_runF (As := [zr ad 4 n, .ref (ad (3, 0)), .int (zi base)]) (rest := st) hat ⟨hx, hb, hml, hown, hts⟩ hM (va_cwF 3 hts hG rfl rfl rfl (S.2.2.2.1 (R_NA, x_bind, y_NA_bind) (by simp [zFw])) ⟨by decide, by decide, by decide +kernel⟩ ⟨q1, by omega⟩) ⟨zPy_blind, hrc, fun U hU hW => zPy_at (p := p) hK S ho U hU hW⟩ rfl rfl hl.1 rfl (lv_room hst) dd ⟨Nat.zero_le _, Nat.zero_le _⟩) ho.2.2 (fun q _ h => zAd_sub ho.2.1 h) (fun q h => zAd_sub ho.2.1 h) (fun u t H1 locs1 ht hvm hw hB hz1 hk1 hS1 => ?_)
    exact kk u hw H1 locs1 ls (zB_ok (fun q h => zAd_sub ho.2.1 h) ht hB hS1) hl
def zDvalue (K : (Int → zS → Prop) → Int → Int → zS → Prop) (d : Nat) : Prop := ∀ (l : Launch) (D : va_G) (g : zG) (ad : zA) (Q : Int → zS → Prop) (e x : Int) (σ : zS), K Q e x σ → 0 ≤ e ∧ e < σ 72 0 ∧ ((σ 30 e = 0 ∧ zGi l y_PI_value b_PI_value 2 (some .int) (rmI d) D g ad σ [.ref (ad (6, e.toNat)), .int (zi x)] Q) ∨ (σ 30 e = 1 ∧ zGi l y_IN_value b_IN_value 2 (some .int) (rmI d) D g ad σ [.ref (ad (6, e.toNat)), .int (zi x)] Q) ∨ (σ 30 e = 2 ∧ zGi l y_NA_value b_NA_value 2 (some .int) (rmI d) D g ad σ [.ref (ad (6, e.toNat)), .int (zi x)] Q))
theorem x_callF_value {E : zE} {pc : Nat} {L : List (Nat × Value)} {st : List Value} {σ : zS} {cc : ByteArray} {own : String} {D : va_G} {g : zG} {rm : Room} {nl : Nat} {A : Nat → Prop} {ad : zA} {K : (Int → zS → Prop) → Int → Int → zS → Prop} {d index : Nat} {Q : Int → zS → Prop} {As st0 : List Value} {e x : Int} (C : zX E cc own D g rm nl) (S : zSt g A (zst E) (zst E).heap) (hlink : Cond.methodLink own index x_value ∈ lw_g) (dd : decode cc pc = .ok (.invokeinterface index 2, 5)) (hR : (rmI d).frames + 1 ≤ rm.frames ∧ 8 + (2 + 11) + (rmI d).locals ≤ rm.locals) (hs : st0 = [.int (zi x)].reverse ++ zr ad 6 e :: st) (hst : (st.map fun v => v.category).sum ≤ 8) (h : K Q e x σ) (hKd : zDvalue K d) (kk : ∀ r τ, Q r τ → zW E (zOK D A (zst E) g ad) 0 0 (pc + 5) L (.int (zi r) :: st) τ) (hAs : As = [.int (zi x)] := by rfl) : zW E (zOK D A (zst E) g ad) 0 0 pc L st0 σ := by
  obtain ⟨h0, h1, hM⟩ := hKd (zln E) D g ad Q e x σ h
  obtain ⟨p, l, e', R0, s, m, args, below, meth, c, nL, Z⟩ := E
  obtain ⟨⟨hx, hb, hml, hown, hts⟩, hK, hRm, hN⟩ := C
  subst hRm
  rw [zr_s ad 6 h0] at hs
  subst hs
  intro H locs ls ho hl
  obtain ⟨q1, q2⟩ := hR
  rcases hM with ⟨hs, hM⟩ | ⟨hs, hM⟩ | ⟨hs, hM⟩
  · obtain ⟨hrc, hat⟩ := z_recvP (ci := 6) (N := 1) (T := F_PI) (Cn := R_PI) hK ho.1 h0 h1 (ct_pat0 h0 hs) rfl
    have w1 : Cond.selects R_PI x_value y_PI_value ∈ lw_g := List.mem_filter.mpr ⟨List.mem_append_right _ (List.mem_of_getElem? (i := 632) (by decide +kernel)), rfl⟩
    have w2 : Cond.instanceMethod y_PI_value ∈ lw_g := wd_634
    have w3 : Cond.initialized R_PI ∈ lw_g := wd_18
    have hG : GoodIn lw_g (va_wsF own index R_PI x_value y_PI_value (zws y_PI_value b_PI_value 2 (some .int))) := by
      intro w hw
      simp only [va_wsF, List.mem_append, List.mem_cons, List.not_mem_nil, or_false] at hw
      rcases hw with (rfl | rfl | rfl | rfl) | hw
      · exact ⟨hlink, lw_good _ hlink⟩
      · exact ⟨w1, lw_good _ w1⟩
      · exact ⟨w2, lw_good _ w2⟩
      · exact ⟨w3, lw_good _ w3⟩
      · exact zws_good _ _ _ _ wc_PI_value w hw
    refine va_callFi (va_runF (As := [.int (zi x)]) (rest := st) hat ⟨hx, hb, hml, hown, hts⟩ hM (va_cwF 1 hts hG rfl rfl rfl (S.2.2.2.1 (R_PI, x_value, y_PI_value) (by simp [zFw])) ⟨by decide, by decide, by decide +kernel⟩ ⟨q1, by omega⟩) ⟨zPy_blind, hrc, fun U hU hW => zPy_at (p := p) hK S ho U hU hW⟩ rfl rfl hl.1 rfl (lv_room hst) dd ⟨Nat.zero_le _, Nat.zero_le _⟩) ho.2.2 (fun q _ h => zAd_sub ho.2.1 h) (fun q h => zAd_sub ho.2.1 h) (fun r u t H1 locs1 ht hvm hw hB hz1 hk1 hS1 => ?_)
    obtain ⟨z, rfl, hq⟩ := hw
    exact kk z u hq H1 locs1 ls (zB_ok (fun q h => zAd_sub ho.2.1 h) ht hB hS1) hl
  · obtain ⟨hrc, hat⟩ := z_recvP (ci := 7) (N := 1) (T := F_IN) (Cn := R_IN) hK ho.1 h0 h1 (ct_pat1 h0 hs) rfl
    have w1 : Cond.selects R_IN x_value y_IN_value ∈ lw_g := List.mem_filter.mpr ⟨List.mem_append_right _ (List.mem_of_getElem? (i := 618) (by decide +kernel)), rfl⟩
    have w2 : Cond.instanceMethod y_IN_value ∈ lw_g := wd_620
    have w3 : Cond.initialized R_IN ∈ lw_g := wd_19
    have hG : GoodIn lw_g (va_wsF own index R_IN x_value y_IN_value (zws y_IN_value b_IN_value 2 (some .int))) := by
      intro w hw
      simp only [va_wsF, List.mem_append, List.mem_cons, List.not_mem_nil, or_false] at hw
      rcases hw with (rfl | rfl | rfl | rfl) | hw
      · exact ⟨hlink, lw_good _ hlink⟩
      · exact ⟨w1, lw_good _ w1⟩
      · exact ⟨w2, lw_good _ w2⟩
      · exact ⟨w3, lw_good _ w3⟩
      · exact zws_good _ _ _ _ wc_IN_value w hw
    refine va_callFi (va_runF (As := [.int (zi x)]) (rest := st) hat ⟨hx, hb, hml, hown, hts⟩ hM (va_cwF 1 hts hG rfl rfl rfl (S.2.2.2.1 (R_IN, x_value, y_IN_value) (by simp [zFw])) ⟨by decide, by decide, by decide +kernel⟩ ⟨q1, by omega⟩) ⟨zPy_blind, hrc, fun U hU hW => zPy_at (p := p) hK S ho U hU hW⟩ rfl rfl hl.1 rfl (lv_room hst) dd ⟨Nat.zero_le _, Nat.zero_le _⟩) ho.2.2 (fun q _ h => zAd_sub ho.2.1 h) (fun q h => zAd_sub ho.2.1 h) (fun r u t H1 locs1 ht hvm hw hB hz1 hk1 hS1 => ?_)
    obtain ⟨z, rfl, hq⟩ := hw
    exact kk z u hq H1 locs1 ls (zB_ok (fun q h => zAd_sub ho.2.1 h) ht hB hS1) hl
  · obtain ⟨hrc, hat⟩ := z_recvP (ci := 8) (N := 2) (T := F_NA) (Cn := R_NA) hK ho.1 h0 h1 (ct_pat2 h0 hs) rfl
    have w1 : Cond.selects R_NA x_value y_NA_value ∈ lw_g := List.mem_filter.mpr ⟨List.mem_append_right _ (List.mem_of_getElem? (i := 625) (by decide +kernel)), rfl⟩
    have w2 : Cond.instanceMethod y_NA_value ∈ lw_g := wd_627
    have w3 : Cond.initialized R_NA ∈ lw_g := wd_20
    have hG : GoodIn lw_g (va_wsF own index R_NA x_value y_NA_value (zws y_NA_value b_NA_value 2 (some .int))) := by
      intro w hw
      simp only [va_wsF, List.mem_append, List.mem_cons, List.not_mem_nil, or_false] at hw
      rcases hw with (rfl | rfl | rfl | rfl) | hw
      · exact ⟨hlink, lw_good _ hlink⟩
      · exact ⟨w1, lw_good _ w1⟩
      · exact ⟨w2, lw_good _ w2⟩
      · exact ⟨w3, lw_good _ w3⟩
      · exact zws_good _ _ _ _ wc_NA_value w hw
    refine va_callFi (va_runF (As := [.int (zi x)]) (rest := st) hat ⟨hx, hb, hml, hown, hts⟩ hM (va_cwF 1 hts hG rfl rfl rfl (S.2.2.2.1 (R_NA, x_value, y_NA_value) (by simp [zFw])) ⟨by decide, by decide, by decide +kernel⟩ ⟨q1, by omega⟩) ⟨zPy_blind, hrc, fun U hU hW => zPy_at (p := p) hK S ho U hU hW⟩ rfl rfl hl.1 rfl (lv_room hst) dd ⟨Nat.zero_le _, Nat.zero_le _⟩) ho.2.2 (fun q _ h => zAd_sub ho.2.1 h) (fun q h => zAd_sub ho.2.1 h) (fun r u t H1 locs1 ht hvm hw hB hz1 hk1 hS1 => ?_)
    obtain ⟨z, rfl, hq⟩ := hw
    exact kk z u hq H1 locs1 ls (zB_ok (fun q h => zAd_sub ho.2.1 h) ht hB hS1) hl
theorem d_PI_lay_0 : decode b_PI_lay 0 = .ok (.aload_n 1, 1) := by decide +kernel
theorem d_PI_lay_1 : decode b_PI_lay 1 = .ok (.invokevirtual 13, 3) := by decide +kernel
theorem d_PI_lay_4 : decode b_PI_lay 4 = .ok (.ifCond .eq 10, 3) := by decide +kernel
theorem d_PI_lay_7 : decode b_PI_lay 7 = .ok (.aload_n 1, 1) := by decide +kernel
theorem d_PI_lay_8 : decode b_PI_lay 8 = .ok (.getfield 19, 3) := by decide +kernel
theorem d_PI_lay_11 : decode b_PI_lay 11 = .ok (.goto 4, 3) := by decide +kernel
theorem d_PI_lay_14 : decode b_PI_lay 14 = .ok (.iconst 0, 1) := by decide +kernel
theorem d_PI_lay_15 : decode b_PI_lay 15 = .ok (.ireturn, 1) := by decide +kernel
def wp_PI_lay (Q : Int → zS → Prop) (v0 : Int) (v1 : Int) (v2 : Int) (σ : zS) : Prop :=
  0 ≤ v0 ∧ v0 < σ 72 0 ∧
  0 ≤ v1 ∧ v1 < σ 70 0 ∧ wp_ND_inner (fun r2 σ1 =>
    zc r2 ∧ ((r2 = 0 →
      Q 0 σ1) ∧
     (¬ r2 = 0 →
      0 ≤ v1 ∧ v1 < σ1 70 0 ∧ 
      Q (σ1 13 v1) σ1))) v1 σ
set_option maxHeartbeats 4000000 in
set_option maxRecDepth 100000 in
theorem c_PI_lay (d : Nat) (l : Launch) (D : va_G) (g : zG) (ad : zA) (v0 : Int) (v1 : Int) (v2 : Int) (Q : Int → zS → Prop) (σ : zS) (h : wp_PI_lay Q v0 v1 v2 σ) : zGi l y_PI_lay b_PI_lay 3 (some .int) (rmI (d + 1)) D g ad σ [.ref (ad (6, v0.toNat)), zr ad 4 v1, .int (zi v2)] Q := by
  unfold wp_PI_lay at h
  obtain ⟨h0, h1, h⟩ := h
  refine zN_of (by decide) (by simp [lg_sl, zr_cat, kv_cat, cat_i, cat_l, cat_r]) (fun E C R S => ?_)
  have C : zX E b_PI_lay R_PI D g (rmI (d + 1)) 3 := C
  refine z_sub (L' := [(0, zr ad 6 v0), (1, zr ad 4 v1), (2, .int (zi v2))]) [0, 1, 2] (by rw [zr_s ad 6 h0]; simp [lv_args, lv_pick, zr_cat, kv_cat, cat_i, cat_l, cat_r]) ?_
  refine z_aloadZ_n C (pc := 0) d_PI_lay_0 1 rfl ?_
  obtain ⟨hc3, hc4, h⟩ := h
  refine x_callVi (As := []) (st := []) C S fy_ND_inner (4, v1.toNat) (zids_node hc3 hc4) rfl rfl wd_537 (pc := 1) d_PI_lay_1 ⟨rfl, rfl, (by simp only [rmI, rmS]; omega), (by simp only [rmI, rmS]; omega)⟩ rfl (by rw [zr_s ad 4 hc3]; rfl) (Nat.le_of_ble_eq_true rfl) h (c_ND_inner (zln E) D g ad _ _ _) (fun r2 σ1 h => ?_)
  obtain ⟨hc5, h⟩ := h
  refine z_if_eq (tgt := 14) C (pc := 4) d_PI_lay_4 (by decide) hc5 h (fun h => ?_) (fun h => ?_)
  · refine z_iconst C (pc := 14) d_PI_lay_14 ?_
    exact z_iret C R (pc := 15) d_PI_lay_15 h
  · refine z_aloadZ_n C (pc := 7) d_PI_lay_7 1 rfl ?_
    obtain ⟨hc6, hc7, h⟩ := h
    refine x_getN (v := .int (zi (σ1 13 v1))) C 13 (by decide) hc6 hc7 rfl wd_196 (pc := 8) d_PI_lay_8 ?_
    refine z_goto (tgt := 15) C (pc := 11) d_PI_lay_11 (by decide) ?_
    exact z_iret C R (pc := 15) d_PI_lay_15 h
theorem d_IN_lay_0 : decode b_IN_lay 0 = .ok (.aload_n 1, 1) := by decide +kernel
theorem d_IN_lay_1 : decode b_IN_lay 1 = .ok (.getfield 15, 3) := by decide +kernel
theorem d_IN_lay_4 : decode b_IN_lay 4 = .ok (.getstatic 21, 3) := by decide +kernel
theorem d_IN_lay_7 : decode b_IN_lay 7 = .ok (.if_acmp .ne 14, 3) := by decide +kernel
theorem d_IN_lay_10 : decode b_IN_lay 10 = .ok (.iload_n 2, 1) := by decide +kernel
theorem d_IN_lay_11 : decode b_IN_lay 11 = .ok (.ifCond .ne 15, 3) := by decide +kernel
theorem d_IN_lay_14 : decode b_IN_lay 14 = .ok (.aload_n 1, 1) := by decide +kernel
theorem d_IN_lay_15 : decode b_IN_lay 15 = .ok (.invokevirtual 26, 3) := by decide +kernel
theorem d_IN_lay_18 : decode b_IN_lay 18 = .ok (.ifCond .eq 8, 3) := by decide +kernel
theorem d_IN_lay_21 : decode b_IN_lay 21 = .ok (.ldc 30, 2) := by decide +kernel
theorem d_IN_lay_23 : decode b_IN_lay 23 = .ok (.goto 17, 3) := by decide +kernel
theorem d_IN_lay_26 : decode b_IN_lay 26 = .ok (.aload_n 0, 1) := by decide +kernel
theorem d_IN_lay_27 : decode b_IN_lay 27 = .ok (.getfield 9, 3) := by decide +kernel
theorem d_IN_lay_30 : decode b_IN_lay 30 = .ok (.aload_n 1, 1) := by decide +kernel
theorem d_IN_lay_31 : decode b_IN_lay 31 = .ok (.getfield 31, 3) := by decide +kernel
theorem d_IN_lay_34 : decode b_IN_lay 34 = .ok (.iconst 0, 1) := by decide +kernel
theorem d_IN_lay_35 : decode b_IN_lay 35 = .ok (.invokeinterface 35 3, 5) := by decide +kernel
theorem d_IN_lay_40 : decode b_IN_lay 40 = .ok (.ireturn, 1) := by decide +kernel
def bk_IN_lay_26 (Klay : (Int → zS → Prop) → Int → Int → Int → zS → Prop) (Q : Int → zS → Prop) (v0 : Int) (v1 : Int) (σ : zS) : Prop :=
  0 ≤ v0 ∧ v0 < σ 72 0 ∧ σ 30 v0 = 1 ∧ 
  0 ≤ v1 ∧ v1 < σ 70 0 ∧ 
  Klay (fun r12 σ11 =>
    Q r12 σ11) (σ 31 v0) (σ 2 v1) 0 σ
def wp_IN_lay (Klay : (Int → zS → Prop) → Int → Int → Int → zS → Prop) (Q : Int → zS → Prop) (v0 : Int) (v1 : Int) (v2 : Int) (σ : zS) : Prop :=
  0 ≤ v0 ∧ v0 < σ 72 0 ∧
  0 ≤ v1 ∧ v1 < σ 70 0 ∧ 
  0 ≤ σ 1 v1 ∧ σ 1 v1 < 4 ∧ ((σ 1 v1 = 3 →
    zc v2 ∧ ((v2 = 0 →
      wp_ND_root (fun r14 σ13 =>
        zc r14 ∧ ((r14 = 0 →
          bk_IN_lay_26 Klay Q v0 v1 σ13) ∧
         (¬ r14 = 0 →
          Q 268435456 σ13))) v1 σ) ∧
     (¬ v2 = 0 →
      bk_IN_lay_26 Klay Q v0 v1 σ))) ∧
   (¬ σ 1 v1 = 3 →
    Q 268435456 σ))
set_option maxHeartbeats 4000000 in
set_option maxRecDepth 100000 in
theorem wk_IN_lay_26 {d : Nat} {Klay : (Int → zS → Prop) → Int → Int → Int → zS → Prop} {E : zE} {D : va_G} {g : zG} {A : Nat → Prop} {ad : zA} {Q : Int → zS → Prop} (C : zX E b_IN_lay R_IN D g (rmI (d + 1)) 3) (R : zRt E (some .int) (zQi D g ad Q A) 0 0 A) (S : zSt g A (zst E) (zst E).heap) (hKlay : zDlay Klay d) (v0 : Int) (v1 : Int) (σ : zS) (h : bk_IN_lay_26 Klay Q v0 v1 σ) : zW E (zOK D A (zst E) g ad) 0 0 26 [(0, zr ad 6 v0), (1, zr ad 4 v1)] [] σ := by
  unfold bk_IN_lay_26 at h
  refine z_aloadZ_n C (pc := 26) d_IN_lay_26 0 rfl ?_
  obtain ⟨hc6, hc7, hc8, h⟩ := h
  refine x_getP1 C hc6 hc7 hc8 wd_405 (pc := 27) d_IN_lay_27 ?_
  refine z_aloadZ_n C (pc := 30) d_IN_lay_30 1 rfl ?_
  obtain ⟨hc9, hc10, h⟩ := h
  refine x_getN (v := zr ad 4 (σ 2 v1)) C 2 (by decide) hc9 hc10 rfl wd_175 (pc := 31) d_IN_lay_31 ?_
  refine z_iconst C (pc := 34) d_IN_lay_34 ?_
  refine x_callF_lay (As := [zr ad 4 (σ 2 v1), .int (zi 0)]) C S wd_515 (pc := 35) d_IN_lay_35 ⟨by simp only [rmI, rmS]; omega, by simp only [rmI, rmS]; omega⟩ rfl (Nat.le_of_ble_eq_true rfl) h hKlay (fun r12 σ11 h => ?_)
  exact z_iret C R (pc := 40) d_IN_lay_40 h
set_option maxHeartbeats 4000000 in
set_option maxRecDepth 100000 in
theorem c_IN_lay (d : Nat) (Klay : (Int → zS → Prop) → Int → Int → Int → zS → Prop) (hKlay : zDlay Klay d) (l : Launch) (D : va_G) (g : zG) (ad : zA) (v0 : Int) (v1 : Int) (v2 : Int) (Q : Int → zS → Prop) (σ : zS) (h : wp_IN_lay Klay Q v0 v1 v2 σ) : zGi l y_IN_lay b_IN_lay 3 (some .int) (rmI (d + 1)) D g ad σ [.ref (ad (6, v0.toNat)), zr ad 4 v1, .int (zi v2)] Q := by
  unfold wp_IN_lay at h
  obtain ⟨h0, h1, h⟩ := h
  refine zN_of (by decide) (by simp [lg_sl, zr_cat, kv_cat, cat_i, cat_l, cat_r]) (fun E C R S => ?_)
  have C : zX E b_IN_lay R_IN D g (rmI (d + 1)) 3 := C
  refine z_sub (L' := [(0, zr ad 6 v0), (1, zr ad 4 v1), (2, .int (zi v2))]) [0, 1, 2] (by rw [zr_s ad 6 h0]; simp [lv_args, lv_pick, zr_cat, kv_cat, cat_i, cat_l, cat_r]) ?_
  refine z_aloadZ_n C (pc := 0) d_IN_lay_0 1 rfl ?_
  obtain ⟨hc1, hc2, h⟩ := h
  refine x_getN (v := kv g (σ 1 v1)) C 1 (by decide) hc1 hc2 rfl wd_169 (pc := 1) d_IN_lay_1 ?_
  refine x_gets C S 3 (by decide) (by decide) rfl wd_507 (pc := 4) d_IN_lay_4 ?_
  obtain ⟨hc3, hc4, h⟩ := h
  refine x_acmpK_ne (tgt := 21) C S (pc := 7) d_IN_lay_7 (by decide) hc3 hc4 (by decide) (by decide) h (fun h => ?_) (fun h => ?_)
  · refine z_ldc (x := 268435456) C (pc := 21) d_IN_lay_21 wd_513 (by decide) ?_
    refine z_goto (tgt := 40) C (pc := 23) d_IN_lay_23 (by decide) ?_
    exact z_iret C R (pc := 40) d_IN_lay_40 h
  · refine z_iload_n C (pc := 10) d_IN_lay_10 2 rfl ?_
    obtain ⟨hc5, h⟩ := h
    refine z_if_ne (tgt := 26) C (pc := 11) d_IN_lay_11 (by decide) hc5 h (fun h => ?_) (fun h => ?_)
    · refine z_sub [0, 1] rfl ?_
      exact wk_IN_lay_26 C R S hKlay _ _ _ h
    · refine z_aloadZ_n C (pc := 14) d_IN_lay_14 1 rfl ?_
      refine x_callVi (As := []) (st := []) C S fy_ND_root (4, v1.toNat) (zids_node hc1 hc2) rfl rfl wd_508 (pc := 15) d_IN_lay_15 ⟨rfl, rfl, (by simp only [rmI, rmS]; omega), (by simp only [rmI, rmS]; omega)⟩ rfl (by rw [zr_s ad 4 hc1]; rfl) (Nat.le_of_ble_eq_true rfl) h (c_ND_root (zln E) D g ad _ _ _) (fun r14 σ13 h => ?_)
      obtain ⟨hc15, h⟩ := h
      refine z_if_eq (tgt := 26) C (pc := 18) d_IN_lay_18 (by decide) hc15 h (fun h => ?_) (fun h => ?_)
      · refine z_sub [0, 1] rfl ?_
        exact wk_IN_lay_26 C R S hKlay _ _ _ h
      · refine z_ldc (x := 268435456) C (pc := 21) d_IN_lay_21 wd_513 (by decide) ?_
        refine z_goto (tgt := 40) C (pc := 23) d_IN_lay_23 (by decide) ?_
        exact z_iret C R (pc := 40) d_IN_lay_40 h
theorem d_NA_straight_0 : decode b_NA_straight 0 = .ok (.ldc 18, 2) := by decide +kernel
theorem d_NA_straight_2 : decode b_NA_straight 2 = .ok (.aload_n 0, 1) := by decide +kernel
theorem d_NA_straight_3 : decode b_NA_straight 3 = .ok (.getfield 9, 3) := by decide +kernel
theorem d_NA_straight_6 : decode b_NA_straight 6 = .ok (.aload_n 1, 1) := by decide +kernel
theorem d_NA_straight_7 : decode b_NA_straight 7 = .ok (.getfield 19, 3) := by decide +kernel
theorem d_NA_straight_10 : decode b_NA_straight 10 = .ok (.iconst 0, 1) := by decide +kernel
theorem d_NA_straight_11 : decode b_NA_straight 11 = .ok (.invokeinterface 25 3, 5) := by decide +kernel
theorem d_NA_straight_16 : decode b_NA_straight 16 = .ok (.aload_n 0, 1) := by decide +kernel
theorem d_NA_straight_17 : decode b_NA_straight 17 = .ok (.getfield 15, 3) := by decide +kernel
theorem d_NA_straight_20 : decode b_NA_straight 20 = .ok (.aload_n 1, 1) := by decide +kernel
theorem d_NA_straight_21 : decode b_NA_straight 21 = .ok (.getfield 31, 3) := by decide +kernel
theorem d_NA_straight_24 : decode b_NA_straight 24 = .ok (.iconst 0, 1) := by decide +kernel
theorem d_NA_straight_25 : decode b_NA_straight 25 = .ok (.invokeinterface 25 3, 5) := by decide +kernel
theorem d_NA_straight_30 : decode b_NA_straight 30 = .ok (.iadd, 1) := by decide +kernel
theorem d_NA_straight_31 : decode b_NA_straight 31 = .ok (.invokestatic 34, 3) := by decide +kernel
theorem d_NA_straight_34 : decode b_NA_straight 34 = .ok (.ireturn, 1) := by decide +kernel
def wp_NA_straight (Klay : (Int → zS → Prop) → Int → Int → Int → zS → Prop) (Q : Int → zS → Prop) (v0 : Int) (v1 : Int) (σ : zS) : Prop :=
  0 ≤ v0 ∧ v0 < σ 72 0 ∧
  σ 30 v0 = 2 ∧ 
  0 ≤ v1 ∧ v1 < σ 70 0 ∧ 
  Klay (fun r5 σ4 =>
    0 ≤ v0 ∧ v0 < σ4 72 0 ∧ σ4 30 v0 = 2 ∧ 
    0 ≤ v1 ∧ v1 < σ4 70 0 ∧ 
    Klay (fun r12 σ11 =>
      zc (r5 + r12) ∧ 
      Q (if r5 + r12 < 268435456 then r5 + r12 else 268435456) σ11) (σ4 32 v0) (σ4 3 v1) 0 σ4) (σ 31 v0) (σ 2 v1) 0 σ
set_option maxHeartbeats 4000000 in
set_option maxRecDepth 100000 in
theorem c_NA_straight (d : Nat) (Klay : (Int → zS → Prop) → Int → Int → Int → zS → Prop) (hKlay : zDlay Klay d) (l : Launch) (D : va_G) (g : zG) (ad : zA) (v0 : Int) (v1 : Int) (Q : Int → zS → Prop) (σ : zS) (h : wp_NA_straight Klay Q v0 v1 σ) : zGi l y_NA_straight b_NA_straight 2 (some .int) (rmS d) D g ad σ [.ref (ad (6, v0.toNat)), zr ad 4 v1] Q := by
  unfold wp_NA_straight at h
  obtain ⟨h0, h1, h⟩ := h
  refine zN_of (by decide) (by simp [lg_sl, zr_cat, kv_cat, cat_i, cat_l, cat_r]) (fun E C R S => ?_)
  have C : zX E b_NA_straight R_NA D g (rmS d) 2 := C
  refine z_sub (L' := [(0, zr ad 6 v0), (1, zr ad 4 v1)]) [0, 1] (by rw [zr_s ad 6 h0]; simp [lv_args, lv_pick, zr_cat, kv_cat, cat_i, cat_l, cat_r]) ?_
  refine z_ldc (x := 268435456) C (pc := 0) d_NA_straight_0 wd_524 (by decide) ?_
  refine z_aloadZ_n C (pc := 2) d_NA_straight_2 0 rfl ?_
  obtain ⟨hc1, h⟩ := h
  refine x_getP2 C 0 (by decide) h0 h1 hc1 wd_415 (pc := 3) d_NA_straight_3 ?_
  refine z_aloadZ_n C (pc := 6) d_NA_straight_6 1 rfl ?_
  obtain ⟨hc2, hc3, h⟩ := h
  refine x_getN (v := zr ad 4 (σ 2 v1)) C 2 (by decide) hc2 hc3 rfl wd_174 (pc := 7) d_NA_straight_7 ?_
  refine z_iconst C (pc := 10) d_NA_straight_10 ?_
  refine x_callF_lay (As := [zr ad 4 (σ 2 v1), .int (zi 0)]) C S wd_530 (pc := 11) d_NA_straight_11 ⟨by simp only [rmI, rmS]; omega, by simp only [rmI, rmS]; omega⟩ rfl (Nat.le_of_ble_eq_true rfl) h hKlay (fun r5 σ4 h => ?_)
  refine z_aloadZ_n C (pc := 16) d_NA_straight_16 0 rfl ?_
  obtain ⟨hc6, hc7, hc8, h⟩ := h
  refine x_getP2 C 1 (by decide) hc6 hc7 hc8 wd_416 (pc := 17) d_NA_straight_17 ?_
  refine z_aloadZ_n C (pc := 20) d_NA_straight_20 1 rfl ?_
  obtain ⟨hc9, hc10, h⟩ := h
  refine x_getN (v := zr ad 4 (σ4 3 v1)) C 3 (by decide) hc9 hc10 rfl wd_179 (pc := 21) d_NA_straight_21 ?_
  refine z_iconst C (pc := 24) d_NA_straight_24 ?_
  refine x_callF_lay (As := [zr ad 4 (σ4 3 v1), .int (zi 0)]) C S wd_530 (pc := 25) d_NA_straight_25 ⟨by simp only [rmI, rmS]; omega, by simp only [rmI, rmS]; omega⟩ rfl (Nat.le_of_ble_eq_true rfl) h hKlay (fun r12 σ11 h => ?_)
  refine z_iadd C (pc := 30) d_NA_straight_30 ?_
  obtain ⟨hc13, h⟩ := h
  refine x_mmin C wd_542 ⟨(by simp only [rmI, rmS]; omega), (by simp only [rmI, rmS]; omega), Nat.zero_le _, Nat.zero_le _⟩ (by decide) hc13 (Nat.le_of_ble_eq_true rfl) (pc := 31) d_NA_straight_31 ?_
  exact z_iret C R (pc := 34) d_NA_straight_34 h
theorem d_NA_swapped_0 : decode b_NA_swapped 0 = .ok (.ldc 18, 2) := by decide +kernel
theorem d_NA_swapped_2 : decode b_NA_swapped 2 = .ok (.aload_n 0, 1) := by decide +kernel
theorem d_NA_swapped_3 : decode b_NA_swapped 3 = .ok (.getfield 9, 3) := by decide +kernel
theorem d_NA_swapped_6 : decode b_NA_swapped 6 = .ok (.aload_n 1, 1) := by decide +kernel
theorem d_NA_swapped_7 : decode b_NA_swapped 7 = .ok (.getfield 31, 3) := by decide +kernel
theorem d_NA_swapped_10 : decode b_NA_swapped 10 = .ok (.iconst 0, 1) := by decide +kernel
theorem d_NA_swapped_11 : decode b_NA_swapped 11 = .ok (.invokeinterface 25 3, 5) := by decide +kernel
theorem d_NA_swapped_16 : decode b_NA_swapped 16 = .ok (.aload_n 0, 1) := by decide +kernel
theorem d_NA_swapped_17 : decode b_NA_swapped 17 = .ok (.getfield 15, 3) := by decide +kernel
theorem d_NA_swapped_20 : decode b_NA_swapped 20 = .ok (.aload_n 1, 1) := by decide +kernel
theorem d_NA_swapped_21 : decode b_NA_swapped 21 = .ok (.getfield 19, 3) := by decide +kernel
theorem d_NA_swapped_24 : decode b_NA_swapped 24 = .ok (.iconst 0, 1) := by decide +kernel
theorem d_NA_swapped_25 : decode b_NA_swapped 25 = .ok (.invokeinterface 25 3, 5) := by decide +kernel
theorem d_NA_swapped_30 : decode b_NA_swapped 30 = .ok (.iadd, 1) := by decide +kernel
theorem d_NA_swapped_31 : decode b_NA_swapped 31 = .ok (.invokestatic 34, 3) := by decide +kernel
theorem d_NA_swapped_34 : decode b_NA_swapped 34 = .ok (.ireturn, 1) := by decide +kernel
def wp_NA_swapped (Klay : (Int → zS → Prop) → Int → Int → Int → zS → Prop) (Q : Int → zS → Prop) (v0 : Int) (v1 : Int) (σ : zS) : Prop :=
  0 ≤ v0 ∧ v0 < σ 72 0 ∧
  σ 30 v0 = 2 ∧ 
  0 ≤ v1 ∧ v1 < σ 70 0 ∧ 
  Klay (fun r5 σ4 =>
    0 ≤ v0 ∧ v0 < σ4 72 0 ∧ σ4 30 v0 = 2 ∧ 
    0 ≤ v1 ∧ v1 < σ4 70 0 ∧ 
    Klay (fun r12 σ11 =>
      zc (r5 + r12) ∧ 
      Q (if r5 + r12 < 268435456 then r5 + r12 else 268435456) σ11) (σ4 32 v0) (σ4 2 v1) 0 σ4) (σ 31 v0) (σ 3 v1) 0 σ
set_option maxHeartbeats 4000000 in
set_option maxRecDepth 100000 in
theorem c_NA_swapped (d : Nat) (Klay : (Int → zS → Prop) → Int → Int → Int → zS → Prop) (hKlay : zDlay Klay d) (l : Launch) (D : va_G) (g : zG) (ad : zA) (v0 : Int) (v1 : Int) (Q : Int → zS → Prop) (σ : zS) (h : wp_NA_swapped Klay Q v0 v1 σ) : zGi l y_NA_swapped b_NA_swapped 2 (some .int) (rmS d) D g ad σ [.ref (ad (6, v0.toNat)), zr ad 4 v1] Q := by
  unfold wp_NA_swapped at h
  obtain ⟨h0, h1, h⟩ := h
  refine zN_of (by decide) (by simp [lg_sl, zr_cat, kv_cat, cat_i, cat_l, cat_r]) (fun E C R S => ?_)
  have C : zX E b_NA_swapped R_NA D g (rmS d) 2 := C
  refine z_sub (L' := [(0, zr ad 6 v0), (1, zr ad 4 v1)]) [0, 1] (by rw [zr_s ad 6 h0]; simp [lv_args, lv_pick, zr_cat, kv_cat, cat_i, cat_l, cat_r]) ?_
  refine z_ldc (x := 268435456) C (pc := 0) d_NA_swapped_0 wd_524 (by decide) ?_
  refine z_aloadZ_n C (pc := 2) d_NA_swapped_2 0 rfl ?_
  obtain ⟨hc1, h⟩ := h
  refine x_getP2 C 0 (by decide) h0 h1 hc1 wd_415 (pc := 3) d_NA_swapped_3 ?_
  refine z_aloadZ_n C (pc := 6) d_NA_swapped_6 1 rfl ?_
  obtain ⟨hc2, hc3, h⟩ := h
  refine x_getN (v := zr ad 4 (σ 3 v1)) C 3 (by decide) hc2 hc3 rfl wd_179 (pc := 7) d_NA_swapped_7 ?_
  refine z_iconst C (pc := 10) d_NA_swapped_10 ?_
  refine x_callF_lay (As := [zr ad 4 (σ 3 v1), .int (zi 0)]) C S wd_530 (pc := 11) d_NA_swapped_11 ⟨by simp only [rmI, rmS]; omega, by simp only [rmI, rmS]; omega⟩ rfl (Nat.le_of_ble_eq_true rfl) h hKlay (fun r5 σ4 h => ?_)
  refine z_aloadZ_n C (pc := 16) d_NA_swapped_16 0 rfl ?_
  obtain ⟨hc6, hc7, hc8, h⟩ := h
  refine x_getP2 C 1 (by decide) hc6 hc7 hc8 wd_416 (pc := 17) d_NA_swapped_17 ?_
  refine z_aloadZ_n C (pc := 20) d_NA_swapped_20 1 rfl ?_
  obtain ⟨hc9, hc10, h⟩ := h
  refine x_getN (v := zr ad 4 (σ4 2 v1)) C 2 (by decide) hc9 hc10 rfl wd_174 (pc := 21) d_NA_swapped_21 ?_
  refine z_iconst C (pc := 24) d_NA_swapped_24 ?_
  refine x_callF_lay (As := [zr ad 4 (σ4 2 v1), .int (zi 0)]) C S wd_530 (pc := 25) d_NA_swapped_25 ⟨by simp only [rmI, rmS]; omega, by simp only [rmI, rmS]; omega⟩ rfl (Nat.le_of_ble_eq_true rfl) h hKlay (fun r12 σ11 h => ?_)
  refine z_iadd C (pc := 30) d_NA_swapped_30 ?_
  obtain ⟨hc13, h⟩ := h
  refine x_mmin C wd_542 ⟨(by simp only [rmI, rmS]; omega), (by simp only [rmI, rmS]; omega), Nat.zero_le _, Nat.zero_le _⟩ (by decide) hc13 (Nat.le_of_ble_eq_true rfl) (pc := 31) d_NA_swapped_31 ?_
  exact z_iret C R (pc := 34) d_NA_swapped_34 h
theorem d_NA_lay_0 : decode b_NA_lay 0 = .ok (.aload_n 1, 1) := by decide +kernel
theorem d_NA_lay_1 : decode b_NA_lay 1 = .ok (.getfield 40, 3) := by decide +kernel
theorem d_NA_lay_4 : decode b_NA_lay 4 = .ok (.getstatic 44, 3) := by decide +kernel
theorem d_NA_lay_7 : decode b_NA_lay 7 = .ok (.if_acmp .ne 14, 3) := by decide +kernel
theorem d_NA_lay_10 : decode b_NA_lay 10 = .ok (.iload_n 2, 1) := by decide +kernel
theorem d_NA_lay_11 : decode b_NA_lay 11 = .ok (.ifCond .ne 13, 3) := by decide +kernel
theorem d_NA_lay_14 : decode b_NA_lay 14 = .ok (.aload_n 1, 1) := by decide +kernel
theorem d_NA_lay_15 : decode b_NA_lay 15 = .ok (.invokevirtual 49, 3) := by decide +kernel
theorem d_NA_lay_18 : decode b_NA_lay 18 = .ok (.ifCond .eq 6, 3) := by decide +kernel
theorem d_NA_lay_21 : decode b_NA_lay 21 = .ok (.ldc 18, 2) := by decide +kernel
theorem d_NA_lay_23 : decode b_NA_lay 23 = .ok (.ireturn, 1) := by decide +kernel
theorem d_NA_lay_24 : decode b_NA_lay 24 = .ok (.aload_n 0, 1) := by decide +kernel
theorem d_NA_lay_25 : decode b_NA_lay 25 = .ok (.aload_n 1, 1) := by decide +kernel
theorem d_NA_lay_26 : decode b_NA_lay 26 = .ok (.invokevirtual 53, 3) := by decide +kernel
theorem d_NA_lay_29 : decode b_NA_lay 29 = .ok (.aload_n 0, 1) := by decide +kernel
theorem d_NA_lay_30 : decode b_NA_lay 30 = .ok (.aload_n 1, 1) := by decide +kernel
theorem d_NA_lay_31 : decode b_NA_lay 31 = .ok (.invokevirtual 57, 3) := by decide +kernel
theorem d_NA_lay_34 : decode b_NA_lay 34 = .ok (.invokestatic 34, 3) := by decide +kernel
theorem d_NA_lay_37 : decode b_NA_lay 37 = .ok (.ireturn, 1) := by decide +kernel
def bk_NA_lay_24 (Klay : (Int → zS → Prop) → Int → Int → Int → zS → Prop) (Q : Int → zS → Prop) (v0 : Int) (v1 : Int) (σ : zS) : Prop :=
  0 ≤ v0 ∧ v0 < σ 72 0 ∧ σ 30 v0 = 2 ∧ wp_NA_straight Klay (fun r7 σ6 =>
    0 ≤ v0 ∧ v0 < σ6 72 0 ∧ σ6 30 v0 = 2 ∧ wp_NA_swapped Klay (fun r12 σ11 =>
      zc r7 ∧ zc r12 ∧ 
      Q (if r12 < r7 then r12 else r7) σ11) v0 v1 σ6) v0 v1 σ
def wp_NA_lay (Klay : (Int → zS → Prop) → Int → Int → Int → zS → Prop) (Q : Int → zS → Prop) (v0 : Int) (v1 : Int) (v2 : Int) (σ : zS) : Prop :=
  0 ≤ v0 ∧ v0 < σ 72 0 ∧
  0 ≤ v1 ∧ v1 < σ 70 0 ∧ 
  0 ≤ σ 1 v1 ∧ σ 1 v1 < 4 ∧ ((σ 1 v1 = 2 →
    zc v2 ∧ ((v2 = 0 →
      wp_ND_root (fun r19 σ18 =>
        zc r19 ∧ ((r19 = 0 →
          bk_NA_lay_24 Klay Q v0 v1 σ18) ∧
         (¬ r19 = 0 →
          Q 268435456 σ18))) v1 σ) ∧
     (¬ v2 = 0 →
      bk_NA_lay_24 Klay Q v0 v1 σ))) ∧
   (¬ σ 1 v1 = 2 →
    Q 268435456 σ))
set_option maxHeartbeats 4000000 in
set_option maxRecDepth 100000 in
theorem wk_NA_lay_24 {d : Nat} {Klay : (Int → zS → Prop) → Int → Int → Int → zS → Prop} {E : zE} {D : va_G} {g : zG} {A : Nat → Prop} {ad : zA} {Q : Int → zS → Prop} (C : zX E b_NA_lay R_NA D g (rmI (d + 1)) 3) (R : zRt E (some .int) (zQi D g ad Q A) 0 0 A) (S : zSt g A (zst E) (zst E).heap) (hKlay : zDlay Klay d) (v0 : Int) (v1 : Int) (σ : zS) (h : bk_NA_lay_24 Klay Q v0 v1 σ) : zW E (zOK D A (zst E) g ad) 0 0 24 [(0, zr ad 6 v0), (1, zr ad 4 v1)] [] σ := by
  unfold bk_NA_lay_24 at h
  refine z_aloadZ_n C (pc := 24) d_NA_lay_24 0 rfl ?_
  refine z_aloadZ_n C (pc := 25) d_NA_lay_25 1 rfl ?_
  obtain ⟨hc8, hc9, hc10, h⟩ := h
  refine x_callVi (As := [zr ad 4 v1]) (st := []) C S fy_NA_straight (6, v0.toNat) (zids_pat hc8 hc9) (ct_pat2 hc8 hc10) rfl wd_525 (pc := 26) d_NA_lay_26 ⟨rfl, rfl, (by simp only [rmI, rmS]; omega), (by simp only [rmI, rmS]; omega)⟩ rfl (by rw [zr_s ad 6 hc8]; rfl) (Nat.le_of_ble_eq_true rfl) h (c_NA_straight d Klay hKlay (zln E) D g ad _ _ _ _) (fun r7 σ6 h => ?_)
  refine z_aloadZ_n C (pc := 29) d_NA_lay_29 0 rfl ?_
  refine z_aloadZ_n C (pc := 30) d_NA_lay_30 1 rfl ?_
  obtain ⟨hc13, hc14, hc15, h⟩ := h
  refine x_callVi (As := [zr ad 4 v1]) (st := [.int (zi r7)]) C S fy_NA_swapped (6, v0.toNat) (zids_pat hc13 hc14) (ct_pat2 hc13 hc15) rfl wd_543 (pc := 31) d_NA_lay_31 ⟨rfl, rfl, (by simp only [rmI, rmS]; omega), (by simp only [rmI, rmS]; omega)⟩ rfl (by rw [zr_s ad 6 hc13]; rfl) (Nat.le_of_ble_eq_true rfl) h (c_NA_swapped d Klay hKlay (zln E) D g ad _ _ _ _) (fun r12 σ11 h => ?_)
  obtain ⟨hc16, hc17, h⟩ := h
  refine x_mmin C wd_542 ⟨(by simp only [rmI, rmS]; omega), (by simp only [rmI, rmS]; omega), Nat.zero_le _, Nat.zero_le _⟩ hc16 hc17 (Nat.le_of_ble_eq_true rfl) (pc := 34) d_NA_lay_34 ?_
  exact z_iret C R (pc := 37) d_NA_lay_37 h
set_option maxHeartbeats 4000000 in
set_option maxRecDepth 100000 in
theorem c_NA_lay (d : Nat) (Klay : (Int → zS → Prop) → Int → Int → Int → zS → Prop) (hKlay : zDlay Klay d) (l : Launch) (D : va_G) (g : zG) (ad : zA) (v0 : Int) (v1 : Int) (v2 : Int) (Q : Int → zS → Prop) (σ : zS) (h : wp_NA_lay Klay Q v0 v1 v2 σ) : zGi l y_NA_lay b_NA_lay 3 (some .int) (rmI (d + 1)) D g ad σ [.ref (ad (6, v0.toNat)), zr ad 4 v1, .int (zi v2)] Q := by
  unfold wp_NA_lay at h
  obtain ⟨h0, h1, h⟩ := h
  refine zN_of (by decide) (by simp [lg_sl, zr_cat, kv_cat, cat_i, cat_l, cat_r]) (fun E C R S => ?_)
  have C : zX E b_NA_lay R_NA D g (rmI (d + 1)) 3 := C
  refine z_sub (L' := [(0, zr ad 6 v0), (1, zr ad 4 v1), (2, .int (zi v2))]) [0, 1, 2] (by rw [zr_s ad 6 h0]; simp [lv_args, lv_pick, zr_cat, kv_cat, cat_i, cat_l, cat_r]) ?_
  refine z_aloadZ_n C (pc := 0) d_NA_lay_0 1 rfl ?_
  obtain ⟨hc1, hc2, h⟩ := h
  refine x_getN (v := kv g (σ 1 v1)) C 1 (by decide) hc1 hc2 rfl wd_171 (pc := 1) d_NA_lay_1 ?_
  refine x_gets C S 2 (by decide) (by decide) rfl wd_522 (pc := 4) d_NA_lay_4 ?_
  obtain ⟨hc3, hc4, h⟩ := h
  refine x_acmpK_ne (tgt := 21) C S (pc := 7) d_NA_lay_7 (by decide) hc3 hc4 (by decide) (by decide) h (fun h => ?_) (fun h => ?_)
  · refine z_ldc (x := 268435456) C (pc := 21) d_NA_lay_21 wd_524 (by decide) ?_
    exact z_iret C R (pc := 23) d_NA_lay_23 h
  · refine z_iload_n C (pc := 10) d_NA_lay_10 2 rfl ?_
    obtain ⟨hc5, h⟩ := h
    refine z_if_ne (tgt := 24) C (pc := 11) d_NA_lay_11 (by decide) hc5 h (fun h => ?_) (fun h => ?_)
    · refine z_sub [0, 1] rfl ?_
      exact wk_NA_lay_24 C R S hKlay _ _ _ h
    · refine z_aloadZ_n C (pc := 14) d_NA_lay_14 1 rfl ?_
      refine x_callVi (As := []) (st := []) C S fy_ND_root (4, v1.toNat) (zids_node hc1 hc2) rfl rfl wd_523 (pc := 15) d_NA_lay_15 ⟨rfl, rfl, (by simp only [rmI, rmS]; omega), (by simp only [rmI, rmS]; omega)⟩ rfl (by rw [zr_s ad 4 hc1]; rfl) (Nat.le_of_ble_eq_true rfl) h (c_ND_root (zln E) D g ad _ _ _) (fun r19 σ18 h => ?_)
      obtain ⟨hc20, h⟩ := h
      refine z_if_eq (tgt := 24) C (pc := 18) d_NA_lay_18 (by decide) hc20 h (fun h => ?_) (fun h => ?_)
      · refine z_sub [0, 1] rfl ?_
        exact wk_NA_lay_24 C R S hKlay _ _ _ h
      · refine z_ldc (x := 268435456) C (pc := 21) d_NA_lay_21 wd_524 (by decide) ?_
        exact z_iret C R (pc := 23) d_NA_lay_23 h
theorem d_PI_bind_0 : decode b_PI_bind 0 = .ok (.iload_n 3, 1) := by decide +kernel
theorem d_PI_bind_1 : decode b_PI_bind 1 = .ok (.aload_n 0, 1) := by decide +kernel
theorem d_PI_bind_2 : decode b_PI_bind 2 = .ok (.getfield 7, 3) := by decide +kernel
theorem d_PI_bind_5 : decode b_PI_bind 5 = .ok (.iadd, 1) := by decide +kernel
theorem d_PI_bind_6 : decode b_PI_bind 6 = .ok (.aload_n 2, 1) := by decide +kernel
theorem d_PI_bind_7 : decode b_PI_bind 7 = .ok (.arraylength, 1) := by decide +kernel
theorem d_PI_bind_8 : decode b_PI_bind 8 = .ok (.if_icmp .ge 12, 3) := by decide +kernel
theorem d_PI_bind_11 : decode b_PI_bind 11 = .ok (.aload_n 2, 1) := by decide +kernel
theorem d_PI_bind_12 : decode b_PI_bind 12 = .ok (.iload_n 3, 1) := by decide +kernel
theorem d_PI_bind_13 : decode b_PI_bind 13 = .ok (.aload_n 0, 1) := by decide +kernel
theorem d_PI_bind_14 : decode b_PI_bind 14 = .ok (.getfield 7, 3) := by decide +kernel
theorem d_PI_bind_17 : decode b_PI_bind 17 = .ok (.iadd, 1) := by decide +kernel
theorem d_PI_bind_18 : decode b_PI_bind 18 = .ok (.aload_n 1, 1) := by decide +kernel
theorem d_PI_bind_19 : decode b_PI_bind 19 = .ok (.aastore, 1) := by decide +kernel
theorem d_PI_bind_20 : decode b_PI_bind 20 = .ok (.return_, 1) := by decide +kernel
def wp_PI_bind (Q : zS → Prop) (v0 : Int) (v1 : Int) (v3 : Int) (σ : zS) : Prop :=
  0 ≤ v0 ∧ v0 < σ 72 0 ∧
  σ 30 v0 = 0 ∧ 
  zc (v3 + (σ 31 v0)) ∧ ((196 ≤ v3 + (σ 31 v0) →
    Q σ) ∧
   (¬ 196 ≤ v3 + (σ 31 v0) →
    0 ≤ v3 + (σ 31 v0) ∧ v3 + (σ 31 v0) < 196 ∧ zvn σ v1 ∧ ∀ σ3, σ3 = zup σ 50 (v3 + (σ 31 v0)) v1 →
    Q σ3))
set_option maxHeartbeats 4000000 in
set_option maxRecDepth 100000 in
theorem c_PI_bind (d : Nat) (l : Launch) (D : va_G) (g : zG) (ad : zA) (v0 : Int) (v1 : Int) (v3 : Int) (Q : zS → Prop) (σ : zS) (h : wp_PI_bind Q v0 v1 v3 σ) : zGv l y_PI_bind b_PI_bind 4 none (rmI (d + 1)) D g ad σ [.ref (ad (6, v0.toNat)), zr ad 4 v1, .ref (ad (3, 0)), .int (zi v3)] Q := by
  unfold wp_PI_bind at h
  obtain ⟨h0, h1, h⟩ := h
  refine zN_of (by decide) (by simp [lg_sl, zr_cat, kv_cat, cat_i, cat_l, cat_r]) (fun E C R S => ?_)
  have C : zX E b_PI_bind R_PI D g (rmI (d + 1)) 4 := C
  refine z_sub (L' := [(0, zr ad 6 v0), (1, zr ad 4 v1), (2, .ref (ad (3, 0))), (3, .int (zi v3))]) [0, 1, 2, 3] (by rw [zr_s ad 6 h0]; simp [lv_args, lv_pick, zr_cat, kv_cat, cat_i, cat_l, cat_r]) ?_
  refine z_iload_n C (pc := 0) d_PI_bind_0 3 rfl ?_
  refine z_aloadZ_n C (pc := 1) d_PI_bind_1 0 rfl ?_
  obtain ⟨hc1, h⟩ := h
  refine x_getP0 C h0 h1 hc1 wd_395 (pc := 2) d_PI_bind_2 ?_
  refine z_iadd C (pc := 5) d_PI_bind_5 ?_
  refine z_aload_n C (pc := 6) d_PI_bind_6 2 rfl ?_
  refine x_alen C 0 (by decide) (pc := 7) d_PI_bind_7 ?_
  obtain ⟨hc2, h⟩ := h
  refine z_icmp_ge (tgt := 20) C (pc := 8) d_PI_bind_8 (by decide) hc2 (by decide) h (fun h => ?_) (fun h => ?_)
  · exact z_vret C R (pc := 20) d_PI_bind_20 h
  · refine z_aload_n C (pc := 11) d_PI_bind_11 2 rfl ?_
    refine z_iload_n C (pc := 12) d_PI_bind_12 3 rfl ?_
    refine z_aloadZ_n C (pc := 13) d_PI_bind_13 0 rfl ?_
    refine x_getP0 C h0 h1 hc1 wd_395 (pc := 14) d_PI_bind_14 ?_
    refine z_iadd C (pc := 17) d_PI_bind_17 ?_
    refine z_aloadZ_n C (pc := 18) d_PI_bind_18 1 rfl ?_
    obtain ⟨hc4, hc5, hc6, h⟩ := h
    refine x_aast C 0 (by decide) hc4 hc5 hc6 (pc := 19) d_PI_bind_19 ?_
    refine zN h (fun σ3 eσ3 h => ?_)
    exact z_vret C R (pc := 20) d_PI_bind_20 h
theorem d_IN_bind_0 : decode b_IN_bind 0 = .ok (.aload_n 1, 1) := by decide +kernel
theorem d_IN_bind_1 : decode b_IN_bind 1 = .ok (.getfield 15, 3) := by decide +kernel
theorem d_IN_bind_4 : decode b_IN_bind 4 = .ok (.getstatic 21, 3) := by decide +kernel
theorem d_IN_bind_7 : decode b_IN_bind 7 = .ok (.if_acmp .ne 18, 3) := by decide +kernel
theorem d_IN_bind_10 : decode b_IN_bind 10 = .ok (.aload_n 0, 1) := by decide +kernel
theorem d_IN_bind_11 : decode b_IN_bind 11 = .ok (.getfield 9, 3) := by decide +kernel
theorem d_IN_bind_14 : decode b_IN_bind 14 = .ok (.aload_n 1, 1) := by decide +kernel
theorem d_IN_bind_15 : decode b_IN_bind 15 = .ok (.getfield 31, 3) := by decide +kernel
theorem d_IN_bind_18 : decode b_IN_bind 18 = .ok (.aload_n 2, 1) := by decide +kernel
theorem d_IN_bind_19 : decode b_IN_bind 19 = .ok (.iload_n 3, 1) := by decide +kernel
theorem d_IN_bind_20 : decode b_IN_bind 20 = .ok (.invokeinterface 41 4, 5) := by decide +kernel
theorem d_IN_bind_25 : decode b_IN_bind 25 = .ok (.return_, 1) := by decide +kernel
def wp_IN_bind (Kbind : (zS → Prop) → Int → Int → Int → zS → Prop) (Q : zS → Prop) (v0 : Int) (v1 : Int) (v3 : Int) (σ : zS) : Prop :=
  0 ≤ v0 ∧ v0 < σ 72 0 ∧
  0 ≤ v1 ∧ v1 < σ 70 0 ∧ 
  0 ≤ σ 1 v1 ∧ σ 1 v1 < 4 ∧ ((σ 1 v1 = 3 →
    σ 30 v0 = 1 ∧ 
    Kbind (fun σ6 =>
      Q σ6) (σ 31 v0) (σ 2 v1) v3 σ) ∧
   (¬ σ 1 v1 = 3 →
    Q σ))
set_option maxHeartbeats 4000000 in
set_option maxRecDepth 100000 in
theorem c_IN_bind (d : Nat) (Kbind : (zS → Prop) → Int → Int → Int → zS → Prop) (hKbind : zDbind Kbind d) (l : Launch) (D : va_G) (g : zG) (ad : zA) (v0 : Int) (v1 : Int) (v3 : Int) (Q : zS → Prop) (σ : zS) (h : wp_IN_bind Kbind Q v0 v1 v3 σ) : zGv l y_IN_bind b_IN_bind 4 none (rmI (d + 1)) D g ad σ [.ref (ad (6, v0.toNat)), zr ad 4 v1, .ref (ad (3, 0)), .int (zi v3)] Q := by
  unfold wp_IN_bind at h
  obtain ⟨h0, h1, h⟩ := h
  refine zN_of (by decide) (by simp [lg_sl, zr_cat, kv_cat, cat_i, cat_l, cat_r]) (fun E C R S => ?_)
  have C : zX E b_IN_bind R_IN D g (rmI (d + 1)) 4 := C
  refine z_sub (L' := [(0, zr ad 6 v0), (1, zr ad 4 v1), (2, .ref (ad (3, 0))), (3, .int (zi v3))]) [0, 1, 2, 3] (by rw [zr_s ad 6 h0]; simp [lv_args, lv_pick, zr_cat, kv_cat, cat_i, cat_l, cat_r]) ?_
  refine z_aloadZ_n C (pc := 0) d_IN_bind_0 1 rfl ?_
  obtain ⟨hc1, hc2, h⟩ := h
  refine x_getN (v := kv g (σ 1 v1)) C 1 (by decide) hc1 hc2 rfl wd_169 (pc := 1) d_IN_bind_1 ?_
  refine x_gets C S 3 (by decide) (by decide) rfl wd_507 (pc := 4) d_IN_bind_4 ?_
  obtain ⟨hc3, hc4, h⟩ := h
  refine x_acmpK_ne (tgt := 25) C S (pc := 7) d_IN_bind_7 (by decide) hc3 hc4 (by decide) (by decide) h (fun h => ?_) (fun h => ?_)
  · exact z_vret C R (pc := 25) d_IN_bind_25 h
  · refine z_aloadZ_n C (pc := 10) d_IN_bind_10 0 rfl ?_
    obtain ⟨hc5, h⟩ := h
    refine x_getP1 C h0 h1 hc5 wd_405 (pc := 11) d_IN_bind_11 ?_
    refine z_aloadZ_n C (pc := 14) d_IN_bind_14 1 rfl ?_
    refine x_getN (v := zr ad 4 (σ 2 v1)) C 2 (by decide) hc1 hc2 rfl wd_175 (pc := 15) d_IN_bind_15 ?_
    refine z_aload_n C (pc := 18) d_IN_bind_18 2 rfl ?_
    refine z_iload_n C (pc := 19) d_IN_bind_19 3 rfl ?_
    refine x_callF_bind (As := [zr ad 4 (σ 2 v1), .ref (ad (3, 0)), .int (zi v3)]) C S wd_563 (pc := 20) d_IN_bind_20 ⟨by simp only [rmI, rmS]; omega, by simp only [rmI, rmS]; omega⟩ rfl (Nat.le_of_ble_eq_true rfl) h hKbind (fun σ6 h => ?_)
    exact z_vret C R (pc := 25) d_IN_bind_25 h
theorem d_NA_bind_0 : decode b_NA_bind 0 = .ok (.aload_n 1, 1) := by decide +kernel
theorem d_NA_bind_1 : decode b_NA_bind 1 = .ok (.getfield 40, 3) := by decide +kernel
theorem d_NA_bind_4 : decode b_NA_bind 4 = .ok (.getstatic 44, 3) := by decide +kernel
theorem d_NA_bind_7 : decode b_NA_bind 7 = .ok (.if_acmp .eq 4, 3) := by decide +kernel
theorem d_NA_bind_10 : decode b_NA_bind 10 = .ok (.return_, 1) := by decide +kernel
theorem d_NA_bind_11 : decode b_NA_bind 11 = .ok (.aload_n 0, 1) := by decide +kernel
theorem d_NA_bind_12 : decode b_NA_bind 12 = .ok (.aload_n 1, 1) := by decide +kernel
theorem d_NA_bind_13 : decode b_NA_bind 13 = .ok (.invokevirtual 53, 3) := by decide +kernel
theorem d_NA_bind_16 : decode b_NA_bind 16 = .ok (.aload_n 0, 1) := by decide +kernel
theorem d_NA_bind_17 : decode b_NA_bind 17 = .ok (.aload_n 1, 1) := by decide +kernel
theorem d_NA_bind_18 : decode b_NA_bind 18 = .ok (.invokevirtual 57, 3) := by decide +kernel
theorem d_NA_bind_21 : decode b_NA_bind 21 = .ok (.if_icmp .gt 7, 3) := by decide +kernel
theorem d_NA_bind_24 : decode b_NA_bind 24 = .ok (.iconst 1, 1) := by decide +kernel
theorem d_NA_bind_25 : decode b_NA_bind 25 = .ok (.goto 4, 3) := by decide +kernel
theorem d_NA_bind_28 : decode b_NA_bind 28 = .ok (.iconst 0, 1) := by decide +kernel
theorem d_NA_bind_29 : decode b_NA_bind 29 = .ok (.istore 4, 2) := by decide +kernel
theorem d_NA_bind_31 : decode b_NA_bind 31 = .ok (.aload_n 0, 1) := by decide +kernel
theorem d_NA_bind_32 : decode b_NA_bind 32 = .ok (.getfield 9, 3) := by decide +kernel
theorem d_NA_bind_35 : decode b_NA_bind 35 = .ok (.iload 4, 2) := by decide +kernel
theorem d_NA_bind_37 : decode b_NA_bind 37 = .ok (.ifCond .eq 10, 3) := by decide +kernel
theorem d_NA_bind_40 : decode b_NA_bind 40 = .ok (.aload_n 1, 1) := by decide +kernel
theorem d_NA_bind_41 : decode b_NA_bind 41 = .ok (.getfield 19, 3) := by decide +kernel
theorem d_NA_bind_44 : decode b_NA_bind 44 = .ok (.goto 7, 3) := by decide +kernel
theorem d_NA_bind_47 : decode b_NA_bind 47 = .ok (.aload_n 1, 1) := by decide +kernel
theorem d_NA_bind_48 : decode b_NA_bind 48 = .ok (.getfield 31, 3) := by decide +kernel
theorem d_NA_bind_51 : decode b_NA_bind 51 = .ok (.aload_n 2, 1) := by decide +kernel
theorem d_NA_bind_52 : decode b_NA_bind 52 = .ok (.iload_n 3, 1) := by decide +kernel
theorem d_NA_bind_53 : decode b_NA_bind 53 = .ok (.invokeinterface 60 4, 5) := by decide +kernel
theorem d_NA_bind_58 : decode b_NA_bind 58 = .ok (.aload_n 0, 1) := by decide +kernel
theorem d_NA_bind_59 : decode b_NA_bind 59 = .ok (.getfield 15, 3) := by decide +kernel
theorem d_NA_bind_62 : decode b_NA_bind 62 = .ok (.iload 4, 2) := by decide +kernel
theorem d_NA_bind_64 : decode b_NA_bind 64 = .ok (.ifCond .eq 10, 3) := by decide +kernel
theorem d_NA_bind_67 : decode b_NA_bind 67 = .ok (.aload_n 1, 1) := by decide +kernel
theorem d_NA_bind_68 : decode b_NA_bind 68 = .ok (.getfield 31, 3) := by decide +kernel
theorem d_NA_bind_71 : decode b_NA_bind 71 = .ok (.goto 7, 3) := by decide +kernel
theorem d_NA_bind_74 : decode b_NA_bind 74 = .ok (.aload_n 1, 1) := by decide +kernel
theorem d_NA_bind_75 : decode b_NA_bind 75 = .ok (.getfield 19, 3) := by decide +kernel
theorem d_NA_bind_78 : decode b_NA_bind 78 = .ok (.aload_n 2, 1) := by decide +kernel
theorem d_NA_bind_79 : decode b_NA_bind 79 = .ok (.iload_n 3, 1) := by decide +kernel
theorem d_NA_bind_80 : decode b_NA_bind 80 = .ok (.invokeinterface 60 4, 5) := by decide +kernel
theorem d_NA_bind_85 : decode b_NA_bind 85 = .ok (.return_, 1) := by decide +kernel
def bk_NA_bind_78 (Klay : (Int → zS → Prop) → Int → Int → Int → zS → Prop) (Kbind : (zS → Prop) → Int → Int → Int → zS → Prop) (Q : zS → Prop) (v3 : Int) (z0 : Int) (z1 : Int) (σ : zS) : Prop :=
  Kbind (fun σ29 =>
    Q σ29) z1 z0 v3 σ
def bk_NA_bind_51 (Klay : (Int → zS → Prop) → Int → Int → Int → zS → Prop) (Kbind : (zS → Prop) → Int → Int → Int → zS → Prop) (Q : zS → Prop) (v0 : Int) (v1 : Int) (v3 : Int) (v4 : Int) (z0 : Int) (z1 : Int) (σ : zS) : Prop :=
  Kbind (fun σ21 =>
    0 ≤ v0 ∧ v0 < σ21 72 0 ∧ σ21 30 v0 = 2 ∧ 
    zc v4 ∧ ((v4 = 0 →
      0 ≤ v1 ∧ v1 < σ21 70 0 ∧ 
      bk_NA_bind_78 Klay Kbind Q v3 (σ21 2 v1) (σ21 32 v0) σ21) ∧
     (¬ v4 = 0 →
      0 ≤ v1 ∧ v1 < σ21 70 0 ∧ 
      bk_NA_bind_78 Klay Kbind Q v3 (σ21 3 v1) (σ21 32 v0) σ21))) z1 z0 v3 σ
def bk_NA_bind_29 (Klay : (Int → zS → Prop) → Int → Int → Int → zS → Prop) (Kbind : (zS → Prop) → Int → Int → Int → zS → Prop) (Q : zS → Prop) (v0 : Int) (v1 : Int) (v3 : Int) (z0 : Int) (σ : zS) : Prop :=
  0 ≤ v0 ∧ v0 < σ 72 0 ∧ σ 30 v0 = 2 ∧ 
  zc z0 ∧ ((z0 = 0 →
    0 ≤ v1 ∧ v1 < σ 70 0 ∧ 
    bk_NA_bind_51 Klay Kbind Q v0 v1 v3 z0 (σ 3 v1) (σ 31 v0) σ) ∧
   (¬ z0 = 0 →
    0 ≤ v1 ∧ v1 < σ 70 0 ∧ 
    bk_NA_bind_51 Klay Kbind Q v0 v1 v3 z0 (σ 2 v1) (σ 31 v0) σ))
def wp_NA_bind (Klay : (Int → zS → Prop) → Int → Int → Int → zS → Prop) (Kbind : (zS → Prop) → Int → Int → Int → zS → Prop) (Q : zS → Prop) (v0 : Int) (v1 : Int) (v3 : Int) (σ : zS) : Prop :=
  0 ≤ v0 ∧ v0 < σ 72 0 ∧
  0 ≤ v1 ∧ v1 < σ 70 0 ∧ 
  0 ≤ σ 1 v1 ∧ σ 1 v1 < 4 ∧ ((σ 1 v1 = 2 →
    σ 30 v0 = 2 ∧ wp_NA_straight Klay (fun r6 σ5 =>
      0 ≤ v0 ∧ v0 < σ5 72 0 ∧ σ5 30 v0 = 2 ∧ wp_NA_swapped Klay (fun r9 σ8 =>
        zc r6 ∧ zc r9 ∧ ((r9 < r6 →
          bk_NA_bind_29 Klay Kbind Q v0 v1 v3 0 σ8) ∧
         (¬ r9 < r6 →
          bk_NA_bind_29 Klay Kbind Q v0 v1 v3 1 σ8))) v0 v1 σ5) v0 v1 σ) ∧
   (¬ σ 1 v1 = 2 →
    Q σ))
set_option maxHeartbeats 4000000 in
set_option maxRecDepth 100000 in
theorem wk_NA_bind_78 {d : Nat} {Klay : (Int → zS → Prop) → Int → Int → Int → zS → Prop} {Kbind : (zS → Prop) → Int → Int → Int → zS → Prop} {E : zE} {D : va_G} {g : zG} {A : Nat → Prop} {ad : zA} {Q : zS → Prop} (C : zX E b_NA_bind R_NA D g (rmI (d + 1)) 5) (R : zRt E none (zQv D g ad Q A) 0 0 A) (S : zSt g A (zst E) (zst E).heap) (hKlay : zDlay Klay d) (hKbind : zDbind Kbind d) (v3 : Int) (z0 : Int) (z1 : Int) (σ : zS) (h : bk_NA_bind_78 Klay Kbind Q v3 z0 z1 σ) : zW E (zOK D A (zst E) g ad) 0 0 78 [(2, .ref (ad (3, 0))), (3, .int (zi v3))] [zr ad 4 z0, zr ad 6 z1] σ := by
  unfold bk_NA_bind_78 at h
  refine z_aload_n C (pc := 78) d_NA_bind_78 0 rfl ?_
  refine z_iload_n C (pc := 79) d_NA_bind_79 1 rfl ?_
  refine x_callF_bind (As := [zr ad 4 z0, .ref (ad (3, 0)), .int (zi v3)]) C S wd_570 (pc := 80) d_NA_bind_80 ⟨by simp only [rmI, rmS]; omega, by simp only [rmI, rmS]; omega⟩ rfl (Nat.le_of_ble_eq_true rfl) h hKbind (fun σ29 h => ?_)
  exact z_vret C R (pc := 85) d_NA_bind_85 h
set_option maxHeartbeats 4000000 in
set_option maxRecDepth 100000 in
theorem wk_NA_bind_51 {d : Nat} {Klay : (Int → zS → Prop) → Int → Int → Int → zS → Prop} {Kbind : (zS → Prop) → Int → Int → Int → zS → Prop} {E : zE} {D : va_G} {g : zG} {A : Nat → Prop} {ad : zA} {Q : zS → Prop} (C : zX E b_NA_bind R_NA D g (rmI (d + 1)) 5) (R : zRt E none (zQv D g ad Q A) 0 0 A) (S : zSt g A (zst E) (zst E).heap) (hKlay : zDlay Klay d) (hKbind : zDbind Kbind d) (v0 : Int) (v1 : Int) (v3 : Int) (v4 : Int) (z0 : Int) (z1 : Int) (σ : zS) (h : bk_NA_bind_51 Klay Kbind Q v0 v1 v3 v4 z0 z1 σ) : zW E (zOK D A (zst E) g ad) 0 0 51 [(0, zr ad 6 v0), (1, zr ad 4 v1), (2, .ref (ad (3, 0))), (3, .int (zi v3)), (4, .int (zi v4))] [zr ad 4 z0, zr ad 6 z1] σ := by
  unfold bk_NA_bind_51 at h
  refine z_aload_n C (pc := 51) d_NA_bind_51 2 rfl ?_
  refine z_iload_n C (pc := 52) d_NA_bind_52 3 rfl ?_
  refine x_callF_bind (As := [zr ad 4 z0, .ref (ad (3, 0)), .int (zi v3)]) C S wd_570 (pc := 53) d_NA_bind_53 ⟨by simp only [rmI, rmS]; omega, by simp only [rmI, rmS]; omega⟩ rfl (Nat.le_of_ble_eq_true rfl) h hKbind (fun σ21 h => ?_)
  refine z_aloadZ_n C (pc := 58) d_NA_bind_58 0 rfl ?_
  obtain ⟨hc23, hc24, hc25, h⟩ := h
  refine x_getP2 C 1 (by decide) hc23 hc24 hc25 wd_416 (pc := 59) d_NA_bind_59 ?_
  refine z_iload C (pc := 62) d_NA_bind_62 4 rfl ?_
  obtain ⟨hc26, h⟩ := h
  refine z_if_eq (tgt := 74) C (pc := 64) d_NA_bind_64 (by decide) hc26 h (fun h => ?_) (fun h => ?_)
  · refine z_aloadZ_n C (pc := 74) d_NA_bind_74 1 rfl ?_
    obtain ⟨hc27, hc28, h⟩ := h
    refine x_getN (v := zr ad 4 (σ21 2 v1)) C 2 (by decide) hc27 hc28 rfl wd_174 (pc := 75) d_NA_bind_75 ?_
    refine z_sub [2, 3] rfl ?_
    exact wk_NA_bind_78 C R S hKlay hKbind _ _ _ _ h
  · refine z_aloadZ_n C (pc := 67) d_NA_bind_67 1 rfl ?_
    obtain ⟨hc31, hc32, h⟩ := h
    refine x_getN (v := zr ad 4 (σ21 3 v1)) C 3 (by decide) hc31 hc32 rfl wd_179 (pc := 68) d_NA_bind_68 ?_
    refine z_goto (tgt := 78) C (pc := 71) d_NA_bind_71 (by decide) ?_
    refine z_sub [2, 3] rfl ?_
    exact wk_NA_bind_78 C R S hKlay hKbind _ _ _ _ h
set_option maxHeartbeats 4000000 in
set_option maxRecDepth 100000 in
theorem wk_NA_bind_29 {d : Nat} {Klay : (Int → zS → Prop) → Int → Int → Int → zS → Prop} {Kbind : (zS → Prop) → Int → Int → Int → zS → Prop} {E : zE} {D : va_G} {g : zG} {A : Nat → Prop} {ad : zA} {Q : zS → Prop} (C : zX E b_NA_bind R_NA D g (rmI (d + 1)) 5) (R : zRt E none (zQv D g ad Q A) 0 0 A) (S : zSt g A (zst E) (zst E).heap) (hKlay : zDlay Klay d) (hKbind : zDbind Kbind d) (v0 : Int) (v1 : Int) (v3 : Int) (z0 : Int) (σ : zS) (h : bk_NA_bind_29 Klay Kbind Q v0 v1 v3 z0 σ) : zW E (zOK D A (zst E) g ad) 0 0 29 [(0, zr ad 6 v0), (1, zr ad 4 v1), (2, .ref (ad (3, 0))), (3, .int (zi v3))] [.int (zi z0)] σ := by
  unfold bk_NA_bind_29 at h
  refine z_istore (L' := [(4, .int (zi z0)), (0, zr ad 6 v0), (1, zr ad 4 v1), (2, .ref (ad (3, 0))), (3, .int (zi v3))]) C (pc := 29) d_NA_bind_29 (by decide) rfl ?_
  refine z_aloadZ_n C (pc := 31) d_NA_bind_31 1 rfl ?_
  obtain ⟨hc15, hc16, hc17, h⟩ := h
  refine x_getP2 C 0 (by decide) hc15 hc16 hc17 wd_415 (pc := 32) d_NA_bind_32 ?_
  refine z_iload C (pc := 35) d_NA_bind_35 0 rfl ?_
  obtain ⟨hc18, h⟩ := h
  refine z_if_eq (tgt := 47) C (pc := 37) d_NA_bind_37 (by decide) hc18 h (fun h => ?_) (fun h => ?_)
  · refine z_aloadZ_n C (pc := 47) d_NA_bind_47 2 rfl ?_
    obtain ⟨hc19, hc20, h⟩ := h
    refine x_getN (v := zr ad 4 (σ 3 v1)) C 3 (by decide) hc19 hc20 rfl wd_179 (pc := 48) d_NA_bind_48 ?_
    refine z_sub [1, 2, 3, 4, 0] rfl ?_
    exact wk_NA_bind_51 C R S hKlay hKbind _ _ _ _ _ _ _ h
  · refine z_aloadZ_n C (pc := 40) d_NA_bind_40 2 rfl ?_
    obtain ⟨hc33, hc34, h⟩ := h
    refine x_getN (v := zr ad 4 (σ 2 v1)) C 2 (by decide) hc33 hc34 rfl wd_174 (pc := 41) d_NA_bind_41 ?_
    refine z_goto (tgt := 51) C (pc := 44) d_NA_bind_44 (by decide) ?_
    refine z_sub [1, 2, 3, 4, 0] rfl ?_
    exact wk_NA_bind_51 C R S hKlay hKbind _ _ _ _ _ _ _ h
set_option maxHeartbeats 4000000 in
set_option maxRecDepth 100000 in
theorem c_NA_bind (d : Nat) (Klay : (Int → zS → Prop) → Int → Int → Int → zS → Prop) (hKlay : zDlay Klay d) (Kbind : (zS → Prop) → Int → Int → Int → zS → Prop) (hKbind : zDbind Kbind d) (l : Launch) (D : va_G) (g : zG) (ad : zA) (v0 : Int) (v1 : Int) (v3 : Int) (Q : zS → Prop) (σ : zS) (h : wp_NA_bind Klay Kbind Q v0 v1 v3 σ) : zGv l y_NA_bind b_NA_bind 5 none (rmI (d + 1)) D g ad σ [.ref (ad (6, v0.toNat)), zr ad 4 v1, .ref (ad (3, 0)), .int (zi v3)] Q := by
  unfold wp_NA_bind at h
  obtain ⟨h0, h1, h⟩ := h
  refine zN_of (by decide) (by simp [lg_sl, zr_cat, kv_cat, cat_i, cat_l, cat_r]) (fun E C R S => ?_)
  have C : zX E b_NA_bind R_NA D g (rmI (d + 1)) 5 := C
  refine z_sub (L' := [(0, zr ad 6 v0), (1, zr ad 4 v1), (2, .ref (ad (3, 0))), (3, .int (zi v3))]) [0, 1, 2, 3] (by rw [zr_s ad 6 h0]; simp [lv_args, lv_pick, zr_cat, kv_cat, cat_i, cat_l, cat_r]) ?_
  refine z_aloadZ_n C (pc := 0) d_NA_bind_0 1 rfl ?_
  obtain ⟨hc1, hc2, h⟩ := h
  refine x_getN (v := kv g (σ 1 v1)) C 1 (by decide) hc1 hc2 rfl wd_171 (pc := 1) d_NA_bind_1 ?_
  refine x_gets C S 2 (by decide) (by decide) rfl wd_522 (pc := 4) d_NA_bind_4 ?_
  obtain ⟨hc3, hc4, h⟩ := h
  refine x_acmpK_eq (tgt := 11) C S (pc := 7) d_NA_bind_7 (by decide) hc3 hc4 (by decide) (by decide) h (fun h => ?_) (fun h => ?_)
  · refine z_aloadZ_n C (pc := 11) d_NA_bind_11 0 rfl ?_
    refine z_aloadZ_n C (pc := 12) d_NA_bind_12 1 rfl ?_
    obtain ⟨hc7, h⟩ := h
    refine x_callVi (As := [zr ad 4 v1]) (st := []) C S fy_NA_straight (6, v0.toNat) (zids_pat h0 h1) (ct_pat2 h0 hc7) rfl wd_525 (pc := 13) d_NA_bind_13 ⟨rfl, rfl, (by simp only [rmI, rmS]; omega), (by simp only [rmI, rmS]; omega)⟩ rfl (by rw [zr_s ad 6 h0]; rfl) (Nat.le_of_ble_eq_true rfl) h (c_NA_straight d Klay hKlay (zln E) D g ad _ _ _ _) (fun r6 σ5 h => ?_)
    refine z_aloadZ_n C (pc := 16) d_NA_bind_16 0 rfl ?_
    refine z_aloadZ_n C (pc := 17) d_NA_bind_17 1 rfl ?_
    obtain ⟨hc10, hc11, hc12, h⟩ := h
    refine x_callVi (As := [zr ad 4 v1]) (st := [.int (zi r6)]) C S fy_NA_swapped (6, v0.toNat) (zids_pat hc10 hc11) (ct_pat2 hc10 hc12) rfl wd_543 (pc := 18) d_NA_bind_18 ⟨rfl, rfl, (by simp only [rmI, rmS]; omega), (by simp only [rmI, rmS]; omega)⟩ rfl (by rw [zr_s ad 6 hc10]; rfl) (Nat.le_of_ble_eq_true rfl) h (c_NA_swapped d Klay hKlay (zln E) D g ad _ _ _ _) (fun r9 σ8 h => ?_)
    obtain ⟨hc13, hc14, h⟩ := h
    refine z_icmp_gt (tgt := 28) C (pc := 21) d_NA_bind_21 (by decide) hc13 hc14 h (fun h => ?_) (fun h => ?_)
    · refine z_iconst C (pc := 28) d_NA_bind_28 ?_
      exact wk_NA_bind_29 C R S hKlay hKbind _ _ _ _ _ h
    · refine z_iconst C (pc := 24) d_NA_bind_24 ?_
      refine z_goto (tgt := 29) C (pc := 25) d_NA_bind_25 (by decide) ?_
      exact wk_NA_bind_29 C R S hKlay hKbind _ _ _ _ _ h
  · exact z_vret C R (pc := 10) d_NA_bind_10 h
theorem d_PI_value_0 : decode b_PI_value 0 = .ok (.iload_n 1, 1) := by decide +kernel
theorem d_PI_value_1 : decode b_PI_value 1 = .ok (.aload_n 0, 1) := by decide +kernel
theorem d_PI_value_2 : decode b_PI_value 2 = .ok (.getfield 7, 3) := by decide +kernel
theorem d_PI_value_5 : decode b_PI_value 5 = .ok (.ishr, 1) := by decide +kernel
theorem d_PI_value_6 : decode b_PI_value 6 = .ok (.iconst 1, 1) := by decide +kernel
theorem d_PI_value_7 : decode b_PI_value 7 = .ok (.iand, 1) := by decide +kernel
theorem d_PI_value_8 : decode b_PI_value 8 = .ok (.ireturn, 1) := by decide +kernel
def wp_PI_value (Q : Int → zS → Prop) (v0 : Int) (v1 : Int) (σ : zS) : Prop :=
  0 ≤ v0 ∧ v0 < σ 72 0 ∧
  σ 30 v0 = 0 ∧ 
  Q (zand (zshr v1 (σ 31 v0)) 1) σ
set_option maxHeartbeats 4000000 in
set_option maxRecDepth 100000 in
theorem c_PI_value (d : Nat) (l : Launch) (D : va_G) (g : zG) (ad : zA) (v0 : Int) (v1 : Int) (Q : Int → zS → Prop) (σ : zS) (h : wp_PI_value Q v0 v1 σ) : zGi l y_PI_value b_PI_value 2 (some .int) (rmI (d + 1)) D g ad σ [.ref (ad (6, v0.toNat)), .int (zi v1)] Q := by
  unfold wp_PI_value at h
  obtain ⟨h0, h1, h⟩ := h
  refine zN_of (by decide) (Nat.le_of_ble_eq_true rfl) (fun E C R S => ?_)
  have C : zX E b_PI_value R_PI D g (rmI (d + 1)) 2 := C
  refine z_sub (L' := [(0, zr ad 6 v0), (1, .int (zi v1))]) [0, 1] (by rw [zr_s ad 6 h0]; rfl) ?_
  refine z_iload_n C (pc := 0) d_PI_value_0 1 rfl ?_
  refine z_aloadZ_n C (pc := 1) d_PI_value_1 0 rfl ?_
  obtain ⟨hc1, h⟩ := h
  refine x_getP0 C h0 h1 hc1 wd_395 (pc := 2) d_PI_value_2 ?_
  refine z_ishr C (pc := 5) d_PI_value_5 ?_
  refine z_iconst C (pc := 6) d_PI_value_6 ?_
  refine z_iand C (pc := 7) d_PI_value_7 ?_
  exact z_iret C R (pc := 8) d_PI_value_8 h
theorem d_IN_value_0 : decode b_IN_value 0 = .ok (.iconst 1, 1) := by decide +kernel
theorem d_IN_value_1 : decode b_IN_value 1 = .ok (.aload_n 0, 1) := by decide +kernel
theorem d_IN_value_2 : decode b_IN_value 2 = .ok (.getfield 9, 3) := by decide +kernel
theorem d_IN_value_5 : decode b_IN_value 5 = .ok (.iload_n 1, 1) := by decide +kernel
theorem d_IN_value_6 : decode b_IN_value 6 = .ok (.invokeinterface 45 2, 5) := by decide +kernel
theorem d_IN_value_11 : decode b_IN_value 11 = .ok (.isub, 1) := by decide +kernel
theorem d_IN_value_12 : decode b_IN_value 12 = .ok (.ireturn, 1) := by decide +kernel
def wp_IN_value (Kvalue : (Int → zS → Prop) → Int → Int → zS → Prop) (Q : Int → zS → Prop) (v0 : Int) (v1 : Int) (σ : zS) : Prop :=
  0 ≤ v0 ∧ v0 < σ 72 0 ∧
  σ 30 v0 = 1 ∧ 
  Kvalue (fun r3 σ2 =>
    Q (1 - r3) σ2) (σ 31 v0) v1 σ
set_option maxHeartbeats 4000000 in
set_option maxRecDepth 100000 in
theorem c_IN_value (d : Nat) (Kvalue : (Int → zS → Prop) → Int → Int → zS → Prop) (hKvalue : zDvalue Kvalue d) (l : Launch) (D : va_G) (g : zG) (ad : zA) (v0 : Int) (v1 : Int) (Q : Int → zS → Prop) (σ : zS) (h : wp_IN_value Kvalue Q v0 v1 σ) : zGi l y_IN_value b_IN_value 2 (some .int) (rmI (d + 1)) D g ad σ [.ref (ad (6, v0.toNat)), .int (zi v1)] Q := by
  unfold wp_IN_value at h
  obtain ⟨h0, h1, h⟩ := h
  refine zN_of (by decide) (Nat.le_of_ble_eq_true rfl) (fun E C R S => ?_)
  have C : zX E b_IN_value R_IN D g (rmI (d + 1)) 2 := C
  refine z_sub (L' := [(0, zr ad 6 v0), (1, .int (zi v1))]) [0, 1] (by rw [zr_s ad 6 h0]; rfl) ?_
  refine z_iconst C (pc := 0) d_IN_value_0 ?_
  refine z_aloadZ_n C (pc := 1) d_IN_value_1 0 rfl ?_
  obtain ⟨hc1, h⟩ := h
  refine x_getP1 C h0 h1 hc1 wd_405 (pc := 2) d_IN_value_2 ?_
  refine z_iload_n C (pc := 5) d_IN_value_5 1 rfl ?_
  refine x_callF_value (As := [.int (zi v1)]) C S wd_624 (pc := 6) d_IN_value_6 ⟨by simp only [rmI, rmS]; omega, by simp only [rmI, rmS]; omega⟩ rfl (Nat.le_of_ble_eq_true rfl) h hKvalue (fun r3 σ2 h => ?_)
  refine z_isub C (pc := 11) d_IN_value_11 ?_
  exact z_iret C R (pc := 12) d_IN_value_12 h
theorem d_NA_value_0 : decode b_NA_value 0 = .ok (.iconst 1, 1) := by decide +kernel
theorem d_NA_value_1 : decode b_NA_value 1 = .ok (.aload_n 0, 1) := by decide +kernel
theorem d_NA_value_2 : decode b_NA_value 2 = .ok (.getfield 9, 3) := by decide +kernel
theorem d_NA_value_5 : decode b_NA_value 5 = .ok (.iload_n 1, 1) := by decide +kernel
theorem d_NA_value_6 : decode b_NA_value 6 = .ok (.invokeinterface 64 2, 5) := by decide +kernel
theorem d_NA_value_11 : decode b_NA_value 11 = .ok (.aload_n 0, 1) := by decide +kernel
theorem d_NA_value_12 : decode b_NA_value 12 = .ok (.getfield 15, 3) := by decide +kernel
theorem d_NA_value_15 : decode b_NA_value 15 = .ok (.iload_n 1, 1) := by decide +kernel
theorem d_NA_value_16 : decode b_NA_value 16 = .ok (.invokeinterface 64 2, 5) := by decide +kernel
theorem d_NA_value_21 : decode b_NA_value 21 = .ok (.iand, 1) := by decide +kernel
theorem d_NA_value_22 : decode b_NA_value 22 = .ok (.isub, 1) := by decide +kernel
theorem d_NA_value_23 : decode b_NA_value 23 = .ok (.ireturn, 1) := by decide +kernel
def wp_NA_value (Kvalue : (Int → zS → Prop) → Int → Int → zS → Prop) (Q : Int → zS → Prop) (v0 : Int) (v1 : Int) (σ : zS) : Prop :=
  0 ≤ v0 ∧ v0 < σ 72 0 ∧
  σ 30 v0 = 2 ∧ 
  Kvalue (fun r3 σ2 =>
    0 ≤ v0 ∧ v0 < σ2 72 0 ∧ σ2 30 v0 = 2 ∧ 
    Kvalue (fun r8 σ7 =>
      Q (1 - (zand r3 r8)) σ7) (σ2 32 v0) v1 σ2) (σ 31 v0) v1 σ
set_option maxHeartbeats 4000000 in
set_option maxRecDepth 100000 in
theorem c_NA_value (d : Nat) (Kvalue : (Int → zS → Prop) → Int → Int → zS → Prop) (hKvalue : zDvalue Kvalue d) (l : Launch) (D : va_G) (g : zG) (ad : zA) (v0 : Int) (v1 : Int) (Q : Int → zS → Prop) (σ : zS) (h : wp_NA_value Kvalue Q v0 v1 σ) : zGi l y_NA_value b_NA_value 2 (some .int) (rmI (d + 1)) D g ad σ [.ref (ad (6, v0.toNat)), .int (zi v1)] Q := by
  unfold wp_NA_value at h
  obtain ⟨h0, h1, h⟩ := h
  refine zN_of (by decide) (Nat.le_of_ble_eq_true rfl) (fun E C R S => ?_)
  have C : zX E b_NA_value R_NA D g (rmI (d + 1)) 2 := C
  refine z_sub (L' := [(0, zr ad 6 v0), (1, .int (zi v1))]) [0, 1] (by rw [zr_s ad 6 h0]; rfl) ?_
  refine z_iconst C (pc := 0) d_NA_value_0 ?_
  refine z_aloadZ_n C (pc := 1) d_NA_value_1 0 rfl ?_
  obtain ⟨hc1, h⟩ := h
  refine x_getP2 C 0 (by decide) h0 h1 hc1 wd_415 (pc := 2) d_NA_value_2 ?_
  refine z_iload_n C (pc := 5) d_NA_value_5 1 rfl ?_
  refine x_callF_value (As := [.int (zi v1)]) C S wd_631 (pc := 6) d_NA_value_6 ⟨by simp only [rmI, rmS]; omega, by simp only [rmI, rmS]; omega⟩ rfl (Nat.le_of_ble_eq_true rfl) h hKvalue (fun r3 σ2 h => ?_)
  refine z_aloadZ_n C (pc := 11) d_NA_value_11 0 rfl ?_
  obtain ⟨hc4, hc5, hc6, h⟩ := h
  refine x_getP2 C 1 (by decide) hc4 hc5 hc6 wd_416 (pc := 12) d_NA_value_12 ?_
  refine z_iload_n C (pc := 15) d_NA_value_15 1 rfl ?_
  refine x_callF_value (As := [.int (zi v1)]) C S wd_631 (pc := 16) d_NA_value_16 ⟨by simp only [rmI, rmS]; omega, by simp only [rmI, rmS]; omega⟩ rfl (Nat.le_of_ble_eq_true rfl) h hKvalue (fun r8 σ7 h => ?_)
  refine z_iand C (pc := 21) d_NA_value_21 ?_
  refine z_isub C (pc := 22) d_NA_value_22 ?_
  exact z_iret C R (pc := 23) d_NA_value_23 h
def wp_lay : Nat → (Int → zS → Prop) → Int → Int → Int → zS → Prop
  | 0 => fun _ _ _ _ _ => False
  | d + 1 => fun Q e n top σ => 0 ≤ e ∧ e < σ 72 0 ∧ ((σ 30 e = 0 ∧ wp_PI_lay Q e n top σ) ∨ (σ 30 e = 1 ∧ wp_IN_lay (wp_lay d) Q e n top σ) ∨ (σ 30 e = 2 ∧ wp_NA_lay (wp_lay d) Q e n top σ))
theorem c_lay : ∀ d, zDlay (wp_lay d) d := by
  intro d
  induction d with
  | zero =>
    intro l D g ad Q e n top σ h
    exact h.elim
  | succ d ih =>
    intro l D g ad Q e n top σ h
    obtain ⟨h0, h1, h⟩ := h
    refine ⟨h0, h1, ?_⟩
    rcases h with ⟨hs, h⟩ | ⟨hs, h⟩ | ⟨hs, h⟩
    · exact Or.inl ⟨hs, c_PI_lay d l D g ad e n top Q σ h⟩
    · exact Or.inr (Or.inl ⟨hs, c_IN_lay d _ ih l D g ad e n top Q σ h⟩)
    · exact Or.inr (Or.inr ⟨hs, c_NA_lay d _ ih l D g ad e n top Q σ h⟩)
def wp_bind : Nat → (zS → Prop) → Int → Int → Int → zS → Prop
  | 0 => fun _ _ _ _ _ => False
  | d + 1 => fun Q e n base σ => 0 ≤ e ∧ e < σ 72 0 ∧ ((σ 30 e = 0 ∧ wp_PI_bind Q e n base σ) ∨ (σ 30 e = 1 ∧ wp_IN_bind (wp_bind d) Q e n base σ) ∨ (σ 30 e = 2 ∧ wp_NA_bind (wp_lay d) (wp_bind d) Q e n base σ))
theorem c_bind : ∀ d, zDbind (wp_bind d) d := by
  intro d
  induction d with
  | zero =>
    intro l D g ad Q e n base σ h
    exact h.elim
  | succ d ih =>
    intro l D g ad Q e n base σ h
    obtain ⟨h0, h1, h⟩ := h
    refine ⟨h0, h1, ?_⟩
    rcases h with ⟨hs, h⟩ | ⟨hs, h⟩ | ⟨hs, h⟩
    · exact Or.inl ⟨hs, c_PI_bind d l D g ad e n base Q σ h⟩
    · exact Or.inr (Or.inl ⟨hs, c_IN_bind d _ ih l D g ad e n base Q σ h⟩)
    · exact Or.inr (Or.inr ⟨hs, c_NA_bind d _ (c_lay d) _ ih l D g ad e n base Q σ h⟩)
def wp_value : Nat → (Int → zS → Prop) → Int → Int → zS → Prop
  | 0 => fun _ _ _ _ => False
  | d + 1 => fun Q e x σ => 0 ≤ e ∧ e < σ 72 0 ∧ ((σ 30 e = 0 ∧ wp_PI_value Q e x σ) ∨ (σ 30 e = 1 ∧ wp_IN_value (wp_value d) Q e x σ) ∨ (σ 30 e = 2 ∧ wp_NA_value (wp_value d) Q e x σ))
theorem c_value : ∀ d, zDvalue (wp_value d) d := by
  intro d
  induction d with
  | zero =>
    intro l D g ad Q e x σ h
    exact h.elim
  | succ d ih =>
    intro l D g ad Q e x σ h
    obtain ⟨h0, h1, h⟩ := h
    refine ⟨h0, h1, ?_⟩
    rcases h with ⟨hs, h⟩ | ⟨hs, h⟩ | ⟨hs, h⟩
    · exact Or.inl ⟨hs, c_PI_value d l D g ad e x Q σ h⟩
    · exact Or.inr (Or.inl ⟨hs, c_IN_value d _ ih l D g ad e x Q σ h⟩)
    · exact Or.inr (Or.inr ⟨hs, c_NA_value d _ ih l D g ad e x Q σ h⟩)
