section ZM
variable {E : zE} {k n pc : Nat} {L : List (Nat × Value)} {st : List Value} {σ : zS} {cc : ByteArray} {D : va_G} {g : zG} {rm : Room} {nl : Nat} {A : Nat → Prop} {ad : zA}
theorem m_getA {index : Nat} (C : zX E cc R_MM D g rm nl) (j : Nat) (hj : j < 51) (hm : (mAr j).isSome = true) (hlink : Cond.fieldLink R_MM index R_MM (F_MM j).2.1 (F_MM j).2.2.1 ∈ lw_g) (d : decode cc pc = .ok (.getfield index, 3))
    (kk : zW E (zOK D A (zst E) g ad) k n (pc + 3) L (.ref (ad (7, j)) :: st) σ) : zW E (zOK D A (zst E) g ad) k n pc L (.ref (ad (0, 3)) :: st) σ := by
  obtain ⟨p, l, e, R, s, m, args, below, meth, c, nL, Z⟩ := E
  obtain ⟨⟨hx, hb, hml, hown, hts⟩, hK, hR, hN⟩ := C
  intro H locs ls ho hl
  obtain ⟨hP, hD, hS⟩ := ho
  obtain ⟨q, -, hq⟩ := gw_get (ad := ad) (ct := ct g ad σ) (zids_fix (σ := σ) zfix_3)
  have hd : ∀ j, j < 51 → (F_MM j).1 = R_MM := by decide +kernel
  exact va_get (C := R_MM) (T := F_MM) (N := 51) (ci := 9) hx hb hts i_MM hown hK hP q hq rfl j hj (hts _ hlink) (fun _ h9 => by rw [hd j hj] at h9; exact h9) (ctM_arr hj hm) d (kk H locs ls ⟨hP, hD, hS⟩ hl)
theorem m_getI {index : Nat} (C : zX E cc R_MM D g rm nl) (j f : Nat) (hf : 100 + j = f) (hj : j < 51) (hm : mAr j = none) (hlink : Cond.fieldLink R_MM index R_MM (F_MM j).2.1 (F_MM j).2.2.1 ∈ lw_g) (d : decode cc pc = .ok (.getfield index, 3))
    (kk : zW E (zOK D A (zst E) g ad) k n (pc + 3) L (.int (zi (σ f 0)) :: st) σ) : zW E (zOK D A (zst E) g ad) k n pc L (.ref (ad (0, 3)) :: st) σ := by
  obtain ⟨p, l, e, R, s, m, args, below, meth, c, nL, Z⟩ := E
  obtain ⟨⟨hx, hb, hml, hown, hts⟩, hK, hR, hN⟩ := C
  intro H locs ls ho hl
  obtain ⟨hP, hD, hS⟩ := ho
  obtain ⟨q, -, hq⟩ := gw_get (ad := ad) (ct := ct g ad σ) (zids_fix (σ := σ) zfix_3)
  have hd : ∀ j, j < 51 → (F_MM j).1 = R_MM := by decide +kernel
  subst hf
  exact va_get (C := R_MM) (T := F_MM) (N := 51) (ci := 9) hx hb hts i_MM hown hK hP q hq rfl j hj (hts _ hlink) (fun _ h9 => by rw [hd j hj] at h9; exact h9) (ctM_num hj hm) d (kk H locs ls ⟨hP, hD, hS⟩ hl)
theorem m_putI {index : Nat} {v : Int} (C : zX E cc R_MM D g rm nl) (j f : Nat) (hf : 100 + j = f) (hj : j < 51) (hm : mAr j = none) (hlink : Cond.fieldLink R_MM index R_MM (F_MM j).2.1 (F_MM j).2.2.1 ∈ lw_g) (hn : narrow (t_MM j) (.int (zi v)) = .int (zi v) ∧ fits (t_MM j) (.int (zi v)) = true) (d : decode cc pc = .ok (.putfield index, 3))
    (kk : zW E (zOK D A (zst E) g ad) k n (pc + 3) L st (zup σ f 0 v)) : zW E (zOK D A (zst E) g ad) k n pc L (.int (zi v) :: .ref (ad (0, 3)) :: st) σ := by
  obtain ⟨p, l, e, R, s, m, args, below, meth, c, nL, Z⟩ := E
  obtain ⟨⟨hx, hb, hml, hown, hts⟩, hK, hR, hN⟩ := C
  intro H locs ls ho hl
  obtain ⟨hP, hD, hS⟩ := ho
  subst hf
  obtain ⟨q, hi, hq⟩ := gw_get (ad := ad) (ct := ct g ad σ) (zids_fix (σ := σ) zfix_3)
  have hd : ∀ j, j < 51 → (F_MM j).1 = R_MM := by decide +kernel
  have hfin : ∀ j, j < 51 → mAr j = none → (F_MM j).2.2.2 = false := by decide +kernel
  refine va_put (C := R_MM) (T := F_MM) (N := 51) (ci := 9) (fs := ctM ad σ) hx hb hts i_MM t_MM t_MM_ok n_MM hown hK hP (zD_va hD _) hS q hq rfl j hj (hts _ hlink) (fun _ h9 => by rw [hd j hj] at h9; exact h9) (hfin j hj hm) (t_MM_ok j hj) hn.1 hn.2 (by simp [ctM]; exact hj) d (fun H1 locs1 hP1 _ hS1 => ?_)
  rw [gw_set (zD_va hD _) hi (ct' := ct g ad (zup σ (100 + j) 0 v)) (by show Sum.inr (9, ctM ad _) = _; rw [ctM_set hj hm]) (fun u hu hne => ct_mnum_ne hm hu hne)] at hP1
  exact kk H1 locs1 ls ⟨by unfold zP; rw [zids_hi (by omega)]; exact hP1, zD_hi (by omega) hD, hS1⟩ hl
theorem ctA_at {g : zG} {σ : zS} {j i : Nat} {v : Int} (a : Nat) {len : Nat} (hm : mAr j = some (a, len)) (ha : a = 0 ∨ a = 1) : ct g ad (zup σ (100 + j) i v) (7, j) = .inl (g.1 a, len, .inl (upd (fun x : Nat => zi (σ (100 + j) x)) i (zi v))) := by
  have e : (fun x : Nat => zi (zup σ (100 + j) i v (100 + j) x)) = upd (fun x : Nat => zi (σ (100 + j) x)) i (zi v) := by
    funext x
    simp only [zup_or, upd]
    by_cases hx : x = i
    · subst hx; simp
    · have : ¬ ((x : Int) = (i : Int)) := by omega
      simp [hx, this]
  show ctA g _ j = _
  rcases ha with rfl | rfl <;> simp only [ctA, hm] <;> exact congrArg (fun f => Sum.inl (_, _, Sum.inl f)) e
theorem ctA_l {g : zG} {σ : zS} {j i : Nat} {v : Int} {len : Nat} (hm : mAr j = some (2, len)) : ct g ad (zup σ (100 + j) i v) (7, j) = .inl (g.1 2, len, .inr (.inl (vp_updL (fun x : Nat => zj (σ (100 + j) x)) i (zj v)))) := by
  have e : (fun x : Nat => zj (zup σ (100 + j) i v (100 + j) x)) = vp_updL (fun x : Nat => zj (σ (100 + j) x)) i (zj v) := by
    funext x
    simp only [zup_or, vp_updL]
    by_cases hx : x = i
    · subst hx; simp
    · have : ¬ ((x : Int) = (i : Int)) := by omega
      simp [hx, this]
  show ctA g _ j = _
  simp only [ctA, hm]
  exact congrArg (fun f => Sum.inl (_, _, Sum.inr (Sum.inl f))) e
theorem mAr_lt {j : Nat} {x : Nat × Nat} (h : mAr j = some x) : j < 51 := by
  rcases Nat.lt_or_ge j 51 with q | q
  · exact q
  · have hn : mtab[j]? = none := List.getElem?_eq_none (by simpa [mtab] using q)
    rw [mAr, List.getD_eq_getElem?_getD, hn] at h
    cases h
theorem m_iald {i : Int} (C : zX E cc R_MM D g rm nl) (j f len : Nat) (hf : 100 + j = f) (hm : mAr j = some (0, len)) (hlen : len < 2147483648) (h0 : 0 ≤ i) (h1 : i < len) (d : decode cc pc = .ok (.iaload, 1))
    (kk : zW E (zOK D A (zst E) g ad) k n (pc + 1) L (.int (zi (σ f i)) :: st) σ) : zW E (zOK D A (zst E) g ad) k n pc L (.int (zi i) :: .ref (ad (7, j)) :: st) σ := by
  obtain ⟨p, l, e, R, s, m, args, below, meth, c, nL, Z⟩ := E
  obtain ⟨⟨hx, hb, hml, hown, hts⟩, hK, hR, hN⟩ := C
  intro H locs ls ho hl
  obtain ⟨hP, hD, hS⟩ := ho
  subst hf
  obtain ⟨q, -, hq⟩ := gw_get (ad := ad) (ct := ct g ad σ) (zids_fix (σ := σ) (zfix_m (mAr_lt hm) (by rw [hm]; rfl)))
  refine va_iald (cA := g.1 0) (n := len) (f := fun x => zi (σ (100 + j) x)) hx hb hK hP q 0 (hq.trans (by show some (_, ctA g σ j) = _; simp only [ctA, hm])) rfl (zi_in h0 h1 hlen) d ?_
  rw [zi_cl h0 (by omega), Int.toNat_of_nonneg h0]
  exact kk H locs ls ⟨hP, hD, hS⟩ hl
theorem m_zald {i : Int} (C : zX E cc R_MM D g rm nl) (j f len : Nat) (hf : 100 + j = f) (hm : mAr j = some (1, len)) (hlen : len < 2147483648) (h0 : 0 ≤ i) (h1 : i < len) (d : decode cc pc = .ok (.baload, 1))
    (kk : zW E (zOK D A (zst E) g ad) k n (pc + 1) L (.int (zi (σ f i)) :: st) σ) : zW E (zOK D A (zst E) g ad) k n pc L (.int (zi i) :: .ref (ad (7, j)) :: st) σ := by
  obtain ⟨p, l, e, R, s, m, args, below, meth, c, nL, Z⟩ := E
  obtain ⟨⟨hx, hb, hml, hown, hts⟩, hK, hR, hN⟩ := C
  intro H locs ls ho hl
  obtain ⟨hP, hD, hS⟩ := ho
  subst hf
  obtain ⟨q, -, hq⟩ := gw_get (ad := ad) (ct := ct g ad σ) (zids_fix (σ := σ) (zfix_m (mAr_lt hm) (by rw [hm]; rfl)))
  refine va_zald (cA := g.1 1) (n := len) (f := fun x => zi (σ (100 + j) x)) hx hb hK hP q 1 (hq.trans (by show some (_, ctA g σ j) = _; simp only [ctA, hm])) rfl (zi_in h0 h1 hlen) d ?_
  rw [zi_cl h0 (by omega), Int.toNat_of_nonneg h0]
  exact kk H locs ls ⟨hP, hD, hS⟩ hl
theorem m_lald {i : Int} (C : zX E cc R_MM D g rm nl) (j f len : Nat) (hf : 100 + j = f) (hm : mAr j = some (2, len)) (hlen : len < 2147483648) (h0 : 0 ≤ i) (h1 : i < len) (d : decode cc pc = .ok (.laload, 1))
    (kk : zW E (zOK D A (zst E) g ad) k n (pc + 1) L (.long (zj (σ f i)) :: st) σ) : zW E (zOK D A (zst E) g ad) k n pc L (.int (zi i) :: .ref (ad (7, j)) :: st) σ := by
  obtain ⟨p, l, e, R, s, m, args, below, meth, c, nL, Z⟩ := E
  obtain ⟨⟨hx, hb, hml, hown, hts⟩, hK, hR, hN⟩ := C
  intro H locs ls ho hl
  obtain ⟨hP, hD, hS⟩ := ho
  subst hf
  obtain ⟨q, -, hq⟩ := gw_get (ad := ad) (ct := ct g ad σ) (zids_fix (σ := σ) (zfix_m (mAr_lt hm) (by rw [hm]; rfl)))
  refine va_lald (cA := g.1 2) (n := len) (f := fun x => zj (σ (100 + j) x)) hx hb hK hP q 2 (hq.trans (by show some (_, ctA g σ j) = _; simp only [ctA, hm])) rfl (zi_in h0 h1 hlen) d ?_
  rw [zi_cl h0 (by omega), Int.toNat_of_nonneg h0]
  exact kk H locs ls ⟨hP, hD, hS⟩ hl
theorem m_iast {i v : Int} (C : zX E cc R_MM D g rm nl) (j f len : Nat) (hf : 100 + j = f) (hm : mAr j = some (0, len)) (hlen : len < 2147483648) (h0 : 0 ≤ i) (h1 : i < len) (d : decode cc pc = .ok (.iastore, 1))
    (kk : zW E (zOK D A (zst E) g ad) k n (pc + 1) L st (zup σ f i v)) : zW E (zOK D A (zst E) g ad) k n pc L (.int (zi v) :: .int (zi i) :: .ref (ad (7, j)) :: st) σ := by
  obtain ⟨p, l, e, R, s, m, args, below, meth, c, nL, Z⟩ := E
  obtain ⟨⟨hx, hb, hml, hown, hts⟩, hK, hR, hN⟩ := C
  intro H locs ls ho hl
  obtain ⟨hP, hD, hS⟩ := ho
  subst hf
  obtain ⟨q, hi, hq⟩ := gw_get (ad := ad) (ct := ct g ad σ) (zids_fix (σ := σ) (zfix_m (mAr_lt hm) (by rw [hm]; rfl)))
  refine va_iast (cA := g.1 0) (n := len) (f := fun x => zi (σ (100 + j) x)) hx hb hK hP (zD_va hD _) hS q 0 (hq.trans (by show some (_, ctA g σ j) = _; simp only [ctA, hm])) rfl (zi_in h0 h1 hlen) d (fun H1 locs1 hP1 _ hS1 => ?_)
  obtain ⟨w, rfl⟩ := Int.eq_ofNat_of_zero_le h0
  rw [zi_cl h0 (by omega), Int.toNat_natCast, gw_set (zD_va hD _) hi (ct' := ct g ad (zup σ (100 + j) w v)) (ctA_at 0 hm (Or.inl rfl)) (fun u hu hne => ct_marr_ne (by rw [hm]; rfl) hu hne)] at hP1
  exact kk H1 locs1 ls ⟨by unfold zP; rw [zids_hi (by omega)]; exact hP1, zD_hi (by omega) hD, hS1⟩ hl
theorem m_zast {i v : Int} (C : zX E cc R_MM D g rm nl) (j f len : Nat) (hf : 100 + j = f) (hm : mAr j = some (1, len)) (hlen : len < 2147483648) (h0 : 0 ≤ i) (h1 : i < len) (hv : v = 0 ∨ v = 1) (d : decode cc pc = .ok (.bastore, 1))
    (kk : zW E (zOK D A (zst E) g ad) k n (pc + 1) L st (zup σ f i v)) : zW E (zOK D A (zst E) g ad) k n pc L (.int (zi v) :: .int (zi i) :: .ref (ad (7, j)) :: st) σ := by
  obtain ⟨p, l, e, R, s, m, args, below, meth, c, nL, Z⟩ := E
  obtain ⟨⟨hx, hb, hml, hown, hts⟩, hK, hR, hN⟩ := C
  intro H locs ls ho hl
  obtain ⟨hP, hD, hS⟩ := ho
  subst hf
  obtain ⟨q, hi, hq⟩ := gw_get (ad := ad) (ct := ct g ad σ) (zids_fix (σ := σ) (zfix_m (mAr_lt hm) (by rw [hm]; rfl)))
  refine va_zast (cA := g.1 1) (n := len) (f := fun x => zi (σ (100 + j) x)) hx hb hK hP (zD_va hD _) hS q 1 (hq.trans (by show some (_, ctA g σ j) = _; simp only [ctA, hm])) rfl (zi_in h0 h1 hlen) d (fun H1 locs1 hP1 _ hS1 => ?_)
  obtain ⟨w, rfl⟩ := Int.eq_ofNat_of_zero_le h0
  rw [zi_bool hv, zi_cl h0 (by omega), Int.toNat_natCast, gw_set (zD_va hD _) hi (ct' := ct g ad (zup σ (100 + j) w v)) (ctA_at 1 hm (Or.inr rfl)) (fun u hu hne => ct_marr_ne (by rw [hm]; rfl) hu hne)] at hP1
  exact kk H1 locs1 ls ⟨by unfold zP; rw [zids_hi (by omega)]; exact hP1, zD_hi (by omega) hD, hS1⟩ hl
theorem m_last {i v : Int} (C : zX E cc R_MM D g rm nl) (j f len : Nat) (hf : 100 + j = f) (hm : mAr j = some (2, len)) (hlen : len < 2147483648) (h0 : 0 ≤ i) (h1 : i < len) (d : decode cc pc = .ok (.lastore, 1))
    (kk : zW E (zOK D A (zst E) g ad) k n (pc + 1) L st (zup σ f i v)) : zW E (zOK D A (zst E) g ad) k n pc L (.long (zj v) :: .int (zi i) :: .ref (ad (7, j)) :: st) σ := by
  obtain ⟨p, l, e, R, s, m, args, below, meth, c, nL, Z⟩ := E
  obtain ⟨⟨hx, hb, hml, hown, hts⟩, hK, hR, hN⟩ := C
  intro H locs ls ho hl
  obtain ⟨hP, hD, hS⟩ := ho
  subst hf
  obtain ⟨q, hi, hq⟩ := gw_get (ad := ad) (ct := ct g ad σ) (zids_fix (σ := σ) (zfix_m (mAr_lt hm) (by rw [hm]; rfl)))
  refine va_last (cA := g.1 2) (n := len) (f := fun x => zj (σ (100 + j) x)) hx hb hK hP (zD_va hD _) hS q 2 (hq.trans (by show some (_, ctA g σ j) = _; simp only [ctA, hm])) rfl (zi_in h0 h1 hlen) d (fun H1 locs1 hP1 _ hS1 => ?_)
  obtain ⟨w, rfl⟩ := Int.eq_ofNat_of_zero_le h0
  rw [zi_cl h0 (by omega), Int.toNat_natCast, gw_set (zD_va hD _) hi (ct' := ct g ad (zup σ (100 + j) w v)) (ctA_l hm) (fun u hu hne => ct_marr_ne (by rw [hm]; rfl) hu hne)] at hP1
  exact kk H1 locs1 ls ⟨by unfold zP; rw [zids_hi (by omega)]; exact hP1, zD_hi (by omega) hD, hS1⟩ hl
end ZM
