/-! CellMapper's arrays -/
theorem fam_y {u : zT} {f : Nat} {σ : zS} (hf : 50 ≤ f ∧ f ≤ 54) (hu : u ∈ zids σ) (hk : fam u f) : u.1 = 3 := by
  have hz := zids_sort hu
  obtain ⟨a, b⟩ := u
  rcases a with _ | _ | _ | _ | _ | _ | _ | a
  · rcases b with _ | _ | _ | b
    · have : 56 ≤ f ∧ f ≤ 60 := hk
      omega
    · exact hk.elim
    · have : f = 61 ∨ f = 62 := hk
      omega
    · have : 100 ≤ f := hk
      omega
  · have : f = 40 ∨ f = 47 ∨ f = 48 := hk
    omega
  · have : f = 47 ∨ f = 41 + b := hk
    have := (zids_two hu).1
    omega
  · rfl
  · have : f < 18 := hk
    omega
  · have : 20 ≤ f ∧ f ≤ 25 := hk
    omega
  · have : 30 ≤ f ∧ f ≤ 32 := hk
    omega
  · have : 100 ≤ f := hk
    omega
theorem zids_three {σ : zS} {i : Nat} (h : (3, i) ∈ zids σ) : i < 5 := by
  simp only [zids, List.mem_append, List.mem_map] at h
  rcases h with (((h | ⟨_, _, q⟩) | ⟨_, _, q⟩) | ⟨_, _, q⟩) | ⟨_, _, q⟩
  · have : ∀ t ∈ zfix, t.1 = 3 → t.2 < 5 := by decide +kernel
    exact this _ h rfl
  all_goals cases q
theorem ct_y_ne {g : zG} {ad : zA} {σ : zS} {i v : Int} {j : Nat} (hj : j < 5) {u : zT} (hu : u ∈ zids σ) (hne : u ≠ (3, j)) : ct g ad (zup σ (50 + j) i v) u = ct g ad σ u := by
  by_cases h3 : u.1 = 3
  · obtain ⟨a, b⟩ := u
    dsimp only at h3
    subst h3
    have hb := zids_three hu
    have hbj : b ≠ j := fun q => hne (by rw [q])
    have e : ∀ f, f ≠ 50 + j → zup σ (50 + j) i v f = σ f := fun f hf => zup_f σ i v hf
    rcases (show b = 0 ∨ b = 1 ∨ b = 2 ∨ b = 3 ∨ b = 4 by omega) with rfl | rfl | rfl | rfl | rfl
    · simp only [ct, ctY, e 50 (by omega)]
    · simp only [ct, ctY, e 51 (by omega)]
    · simp only [ct, ctY, e 52 (by omega)]
    · simp only [ct, ctY, e 53 (by omega)]
    · simp only [ct, ctY, e 54 (by omega)]
  · refine ct_fam (fun k hk => zup_f σ i v (fun q => ?_))
    subst q
    exact h3 (fam_y (by omega) hu hk)
theorem up_int (σ : zS) (f i : Nat) (v : Int) : (fun x : Nat => zi (zup σ f i v f x)) = upd (fun x : Nat => zi (σ f x)) i (zi v) := by
  funext x
  simp only [zup_or, upd]
  by_cases hx : x = i
  · subst hx; simp
  · have : ¬ ((x : Int) = (i : Int)) := by omega
    simp [hx, this]
theorem up_long (σ : zS) (f i : Nat) (v : Int) : (fun x : Nat => zj (zup σ f i v f x)) = vp_updL (fun x : Nat => zj (σ f x)) i (zj v) := by
  funext x
  simp only [zup_or, vp_updL]
  by_cases hx : x = i
  · subst hx; simp
  · have : ¬ ((x : Int) = (i : Int)) := by omega
    simp [hx, this]
theorem up_ref (ad : zA) (t : Nat) (σ : zS) (f i : Nat) (v : Int) : (fun x : Nat => zro ad t (zup σ f i v f x)) = va_up (fun x : Nat => zro ad t (σ f x)) i (zro ad t v) := by
  funext x
  simp only [zup_or, va_up]
  by_cases hx : x = i
  · subst hx; simp
  · have : ¬ ((x : Int) = (i : Int)) := by omega
    simp [hx, this]
section ZY
variable {E : zE} {k n pc : Nat} {L L' : List (Nat × Value)} {st : List Value} {σ : zS} {cc : ByteArray} {own : String} {D : va_G} {g : zG} {rm : Room} {nl : Nat} {A : Nat → Prop} {ad : zA}
theorem x_iald {i : Int} (C : zX E cc own D g rm nl) (h0 : 0 ≤ i) (h1 : i < 196) (d : decode cc pc = .ok (.iaload, 1))
    (kk : zW E (zOK D A (zst E) g ad) k n (pc + 1) L (.int (zi (σ 52 i)) :: st) σ) : zW E (zOK D A (zst E) g ad) k n pc L (.int (zi i) :: .ref (ad (3, 2)) :: st) σ := by
  obtain ⟨p, l, e, R, s, m, args, below, meth, c, nL, Z⟩ := E
  obtain ⟨⟨hx, hb, hml, hown, hts⟩, hK, hR, hN⟩ := C
  intro H locs ls ho hl
  obtain ⟨hP, hD, hS⟩ := ho
  obtain ⟨q, -, hq⟩ := gw_get (ad := ad) (ct := ct g ad σ) (zids_fix (σ := σ) (zfix_y (l := 2) (by decide)))
  refine va_iald (cA := g.1 0) (n := 196) (f := fun x => zi (σ 52 x)) hx hb hK hP q 0 hq rfl (zi_in h0 h1 (by decide)) d ?_
  rw [zi_cl h0 (by omega), Int.toNat_of_nonneg h0]
  exact kk H locs ls ⟨hP, hD, hS⟩ hl
theorem x_lald {i : Int} (C : zX E cc own D g rm nl) (j : Nat) (hj : j = 3 ∨ j = 4) (h0 : 0 ≤ i) (h1 : i < 196) (d : decode cc pc = .ok (.laload, 1))
    (kk : zW E (zOK D A (zst E) g ad) k n (pc + 1) L (.long (zj (σ (50 + j) i)) :: st) σ) : zW E (zOK D A (zst E) g ad) k n pc L (.int (zi i) :: .ref (ad (3, j)) :: st) σ := by
  obtain ⟨p, l, e, R, s, m, args, below, meth, c, nL, Z⟩ := E
  obtain ⟨⟨hx, hb, hml, hown, hts⟩, hK, hR, hN⟩ := C
  intro H locs ls ho hl
  obtain ⟨hP, hD, hS⟩ := ho
  obtain ⟨q, -, hq⟩ := gw_get (ad := ad) (ct := ct g ad σ) (zids_fix (σ := σ) (zfix_y (l := j) (by omega)))
  refine va_lald (cA := g.1 2) (n := 196) (f := fun x => zj (σ (50 + j) x)) hx hb hK hP q 2 (hq.trans (by rcases hj with rfl | rfl <;> rfl)) rfl (zi_in h0 h1 (by decide)) d ?_
  rw [zi_cl h0 (by omega), Int.toNat_of_nonneg h0]
  exact kk H locs ls ⟨hP, hD, hS⟩ hl
theorem x_aald {i : Int} (C : zX E cc own D g rm nl) (j : Nat) (hj : j = 0 ∨ j = 1) (h0 : 0 ≤ i) (h1 : i < 196) (d : decode cc pc = .ok (.aaload, 1))
    (kk : zW E (zOK D A (zst E) g ad) k n (pc + 1) L (zr ad 4 (σ (50 + j) i) :: st) σ) : zW E (zOK D A (zst E) g ad) k n pc L (.int (zi i) :: .ref (ad (3, j)) :: st) σ := by
  obtain ⟨p, l, e, R, s, m, args, below, meth, c, nL, Z⟩ := E
  obtain ⟨⟨hx, hb, hml, hown, hts⟩, hK, hR, hN⟩ := C
  intro H locs ls ho hl
  obtain ⟨hP, hD, hS⟩ := ho
  obtain ⟨q, -, hq⟩ := gw_get (ad := ad) (ct := ct g ad σ) (zids_fix (σ := σ) (zfix_y (l := j) (by omega)))
  refine va_aldq (cA := g.1 4) (n := 196) (f := fun x => zro ad 4 (σ (50 + j) x)) hx hb hK hP q 4 (hq.trans (by rcases hj with rfl | rfl <;> rfl)) rfl (zi_in h0 h1 (by decide)) d ?_
  rw [zi_cl h0 (by omega), Int.toNat_of_nonneg h0]
  exact kk H locs ls ⟨hP, hD, hS⟩ hl
theorem x_alen (C : zX E cc own D g rm nl) (j : Nat) (hj : j < 5) (d : decode cc pc = .ok (.arraylength, 1))
    (kk : zW E (zOK D A (zst E) g ad) k n (pc + 1) L (.int (zi 196) :: st) σ) : zW E (zOK D A (zst E) g ad) k n pc L (.ref (ad (3, j)) :: st) σ := by
  obtain ⟨p, l, e, R, s, m, args, below, meth, c, nL, Z⟩ := E
  obtain ⟨⟨hx, hb, hml, hown, hts⟩, hK, hR, hN⟩ := C
  intro H locs ls ho hl
  obtain ⟨hP, hD, hS⟩ := ho
  obtain ⟨q, -, hq⟩ := gw_get (ad := ad) (ct := ct g ad σ) (zids_fix (σ := σ) (zfix_y (l := j) hj))
  have kk := kk H locs ls ⟨hP, hD, hS⟩ hl
  rcases (show j = 0 ∨ j = 1 ∨ j = 2 ∨ j = 3 ∨ j = 4 by omega) with rfl | rfl | rfl | rfl | rfl
  · exact va_alen hx hb hK hP q 4 hq rfl rfl d kk
  · exact va_alen hx hb hK hP q 4 hq rfl rfl d kk
  · exact va_alen hx hb hK hP q 0 hq rfl rfl d kk
  · exact va_alen hx hb hK hP q 2 hq rfl rfl d kk
  · exact va_alen hx hb hK hP q 2 hq rfl rfl d kk
theorem x_iast {i v : Int} (C : zX E cc own D g rm nl) (h0 : 0 ≤ i) (h1 : i < 196) (d : decode cc pc = .ok (.iastore, 1))
    (kk : zW E (zOK D A (zst E) g ad) k n (pc + 1) L st (zup σ 52 i v)) : zW E (zOK D A (zst E) g ad) k n pc L (.int (zi v) :: .int (zi i) :: .ref (ad (3, 2)) :: st) σ := by
  obtain ⟨p, l, e, R, s, m, args, below, meth, c, nL, Z⟩ := E
  obtain ⟨⟨hx, hb, hml, hown, hts⟩, hK, hR, hN⟩ := C
  intro H locs ls ho hl
  obtain ⟨hP, hD, hS⟩ := ho
  obtain ⟨q, hi, hq⟩ := gw_get (ad := ad) (ct := ct g ad σ) (zids_fix (σ := σ) (zfix_y (l := 2) (by decide)))
  refine va_iast (cA := g.1 0) (n := 196) (f := fun x => zi (σ 52 x)) hx hb hK hP (zD_va hD _) hS q 0 hq rfl (zi_in h0 h1 (by decide)) d (fun H1 locs1 hP1 _ hS1 => ?_)
  obtain ⟨w, rfl⟩ := Int.eq_ofNat_of_zero_le h0
  rw [zi_cl h0 (by omega), Int.toNat_natCast, gw_set (zD_va hD _) hi (ct' := ct g ad (zup σ (50 + 2) w v)) (by rw [← up_int]; rfl) (fun u hu hne => ct_y_ne (by decide) hu hne)] at hP1
  exact kk H1 locs1 ls ⟨by unfold zP; rw [zids_up (by omega) (by omega) (by omega) (by omega)]; exact hP1, zD_ids (zids_up (by omega) (by omega) (by omega) (by omega)) (fun k' _ _ => zup_f σ _ v (by omega)) hD, hS1⟩ hl
theorem x_last {i v : Int} (C : zX E cc own D g rm nl) (j : Nat) (hj : j = 3 ∨ j = 4) (h0 : 0 ≤ i) (h1 : i < 196) (d : decode cc pc = .ok (.lastore, 1))
    (kk : zW E (zOK D A (zst E) g ad) k n (pc + 1) L st (zup σ (50 + j) i v)) : zW E (zOK D A (zst E) g ad) k n pc L (.long (zj v) :: .int (zi i) :: .ref (ad (3, j)) :: st) σ := by
  obtain ⟨p, l, e, R, s, m, args, below, meth, c, nL, Z⟩ := E
  obtain ⟨⟨hx, hb, hml, hown, hts⟩, hK, hR, hN⟩ := C
  intro H locs ls ho hl
  obtain ⟨hP, hD, hS⟩ := ho
  obtain ⟨q, hi, hq⟩ := gw_get (ad := ad) (ct := ct g ad σ) (zids_fix (σ := σ) (zfix_y (l := j) (by omega)))
  refine va_last (cA := g.1 2) (n := 196) (f := fun x => zj (σ (50 + j) x)) hx hb hK hP (zD_va hD _) hS q 2 (hq.trans (by rcases hj with rfl | rfl <;> rfl)) rfl (zi_in h0 h1 (by decide)) d (fun H1 locs1 hP1 _ hS1 => ?_)
  obtain ⟨w, rfl⟩ := Int.eq_ofNat_of_zero_le h0
  rw [zi_cl h0 (by omega), Int.toNat_natCast, gw_set (zD_va hD _) hi (ct' := ct g ad (zup σ (50 + j) w v)) (by rw [← up_long]; rcases hj with rfl | rfl <;> rfl) (fun u hu hne => ct_y_ne (by omega) hu hne)] at hP1
  exact kk H1 locs1 ls ⟨by unfold zP; rw [zids_up (by omega) (by omega) (by omega) (by omega)]; exact hP1, zD_ids (zids_up (by omega) (by omega) (by omega) (by omega)) (fun k' _ _ => zup_f σ _ v (by omega)) hD, hS1⟩ hl
theorem x_aast {i v : Int} (C : zX E cc own D g rm nl) (j : Nat) (hj : j = 0 ∨ j = 1) (h0 : 0 ≤ i) (h1 : i < 196) (hv : zvn σ v) (d : decode cc pc = .ok (.aastore, 1))
    (kk : zW E (zOK D A (zst E) g ad) k n (pc + 1) L st (zup σ (50 + j) i v)) : zW E (zOK D A (zst E) g ad) k n pc L (zr ad 4 v :: .int (zi i) :: .ref (ad (3, j)) :: st) σ := by
  obtain ⟨p, l, e, R, s, m, args, below, meth, c, nL, Z⟩ := E
  obtain ⟨⟨hx, hb, hml, hown, hts⟩, hK, hR, hN⟩ := C
  intro H locs ls ho hl
  obtain ⟨hP, hD, hS⟩ := ho
  obtain ⟨q, hi, hq⟩ := gw_get (ad := ad) (ct := ct g ad σ) (zids_fix (σ := σ) (zfix_y (l := j) (by omega)))
  have hq2 : (gw (zids σ) ad (ct g ad σ))[q]? = some (ad (3, j), .inl (g.1 4, 196, .inr (.inr (.inr (.inr (fun x => zro ad 4 (σ (50 + j) x))))))) := hq.trans (by rcases hj with rfl | rfl <;> rfl)
  obtain ⟨w, rfl⟩ := Int.eq_ofNat_of_zero_le h0
  have fin : ∀ (H1 : Heap) (locs1 : List Loc), va_P D classes ((gw (zids σ) ad (ct g ad σ)).set q (ad (3, j), .inl (g.1 4, 196, .inr (.inr (.inr (.inr (va_up (fun x : Nat => zro ad 4 (σ (50 + j) x)) w (zro ad 4 v)))))))) H1 → va_S A s.heap H1 locs1 → W p l e R s m args below meth c H1 locs1 k n Z (F0 m (pc + 1) ls st) := by
    intro H1 locs1 hP1 hS1
    rw [gw_set (zD_va hD _) hi (ct' := ct g ad (zup σ (50 + j) w v)) (by rw [← up_ref]; rcases hj with rfl | rfl <;> rfl) (fun u hu hne => ct_y_ne (by omega) hu hne)] at hP1
    exact kk H1 locs1 ls ⟨by unfold zP; rw [zids_up (by omega) (by omega) (by omega) (by omega)]; exact hP1, zD_ids (zids_up (by omega) (by omega) (by omega) (by omega)) (fun k' _ _ => zup_f σ _ v (by omega)) hD, hS1⟩ hl
  rcases hv with rfl | ⟨v0, v1⟩
  · rw [zr_n ad 4 (by decide)]
    refine va_astqN (cA := g.1 4) (n := 196) hx hb hK hP (zD_va hD _) hS q 4 hq2 rfl (zi_in h0 h1 (by decide)) d (fun H1 locs1 hP1 _ hS1 => ?_)
    rw [zi_cl h0 (by omega), Int.toNat_natCast] at hP1
    exact fin H1 locs1 hP1 hS1
  · rw [zr_s ad 4 v0]
    obtain ⟨q2, -, hqv⟩ := gw_get (ad := ad) (ct := ct g ad σ) (zids_node (σ := σ) v0 v1)
    refine va_astq (cA := g.1 4) (n := 196) (r := (R_ND, F_ND, 18)) hx hb hK hP (zD_va hD _) hS q 4 q2 4 hq2 rfl hqv rfl (zi_in h0 h1 (by decide)) d (fun H1 locs1 hP1 _ hS1 => ?_)
    rw [zi_cl h0 (by omega), Int.toNat_natCast, show some (ad (4, v.toNat)) = zro ad 4 v from (if_neg (by omega)).symm] at hP1
    exact fin H1 locs1 hP1 hS1
end ZY
