/-! ArrayList.add -/
theorem zup_self (σ : zS) (k : Nat) (i : Int) : zup σ k i (σ k i) = σ := by
  funext k' i'
  simp only [zup]
  split
  · next h => subst h; split
              · next h => subst h; rfl
              · rfl
  · rfl
/-- an element of list l -/
def zel (σ : zS) (l : Nat) (e : Int) : Prop := 0 ≤ e ∧ e < σ (if l = 5 then 71 else 70) 0
def zadd (σ : zS) (l : Nat) (e c m : Int) : zS := zup (zup (zup (zup σ 48 l m) 47 l c) (41 + l) (σ 40 l) e) 40 l (σ 40 l + 1)
def zOl (D : va_G) (A : Nat → Prop) (s : State) (g : zG) (ad : zA) (σ0 σ : zS) (H : Heap) (locs : List Loc) : Prop := zP D g ad σ H ∧ zD A ad σ0 ∧ zids σ = zids σ0 ∧ va_S A s.heap H locs
section ZLD
variable {E : zE} {k n pc : Nat} {L L' : List (Nat × Value)} {st : List Value} {σ : zS} {cc : ByteArray} {own : String} {D : va_G} {g : zG} {rm : Room} {nl mc ms : Nat} {A : Nat → Prop} {ad : zA}
theorem zel_at {l : Nat} {e : Int} (h : zel σ l e) : ∃ (t : zT) (ci : Nat) (r : vw_C) (fs : List Value), t ∈ zids σ ∧ zr ad (lst l) e = .ref (ad t) ∧ zro ad (lst l) e = some (ad t) ∧ ct g ad σ t = .inr (ci, fs) ∧ classes[ci]? = some r ∧ (∀ mi s, zN0 mi s → va_Nw (.castable r.1 "java/lang/Object") s) := by
  obtain ⟨h0, h1⟩ := h
  unfold lst
  by_cases h5 : l = 5
  · rw [if_pos h5] at h1 ⊢
    exact ⟨(5, e.toNat), 5, (R_CE, F_CE, 6), _, zids_cell h0 h1, zr_s ad 5 h0, if_neg (by omega), rfl, rfl, fun mi s h => h.2.2.2.2.2.2.1⟩
  · rw [if_neg h5] at h1 ⊢
    exact ⟨(4, e.toNat), 4, (R_ND, F_ND, 18), _, zids_node h0 h1, zr_s ad 4 h0, if_neg (by omega), rfl, rfl, fun mi s h => h.2.2.2.2.2.1⟩
theorem fam_list {u : zT} {l : Nat} (hl6 : l < 6) (hu : u ∈ zids σ) (hk : fam u (41 + l)) : u = (2, l) := by
  have hz := zids_sort hu
  obtain ⟨a, b⟩ := u
  rcases a with _ | _ | _ | _ | _ | _ | _ | a
  · rcases b with _ | _ | _ | b <;> simp only [fam] at hk <;> omega
  · simp only [fam] at hk; omega
  · have hk : 41 + l = 47 ∨ 41 + l = 41 + b := hk
    rw [show b = l by omega]
  · simp only [fam] at hk; omega
  · simp only [fam] at hk; omega
  · simp only [fam] at hk; omega
  · simp only [fam] at hk; omega
  · simp only [fam] at hk; omega
theorem xl_ast {l : Nat} {e : Int} (C : zX E cc own D g rm nl) (S : zSt g A (zst E) (zst E).heap) (hl6 : l < 6) (hc : σ 40 l < σ 47 l) (he : zel σ l e) (d : decode cc pc = .ok (.aastore, 1))
    (kk : zW E (zOl D A (zst E) g ad σ) k n (pc + 1) L st (zup σ (41 + l) (σ 40 l) e)) : zW E (zOK D A (zst E) g ad) k n pc L (zr ad (lst l) e :: .int (zi (σ 40 l)) :: .ref (ad (2, l)) :: st) σ := by
  obtain ⟨p, l0, e0, R, s, m, args, below, meth, c, nL, Z⟩ := E
  obtain ⟨⟨hx, hb, hml, hown, hts⟩, hK, hRm, hN⟩ := C
  intro H locs ls ho hl
  obtain ⟨hP, hD, hS⟩ := ho
  obtain ⟨z1, z2, z3, z4⟩ := hD.2.2.2 l hl6
  obtain ⟨q, hi, hq⟩ := gw_get (ad := ad) (ct := ct g ad σ) (zids_ea (σ := σ) hl6 (by omega))
  obtain ⟨t, ci, r, fs, ht, hr, hro, hct, hcl, hca⟩ := zel_at (ad := ad) (g := g) he
  obtain ⟨q2, -, hq2⟩ := gw_get (ad := ad) (ct := ct g ad σ) ht
  obtain ⟨w, hw⟩ := Int.eq_ofNat_of_zero_le z1
  rw [hr]
  refine va_astqO (cA := g.1 3) (n := (σ 47 l).toNat) (f := fun x => zro ad (lst l) (σ (41 + l) x)) (E := "java/lang/Object") hx hb hK hP (zD_va hD _) hS q 3 q2 ci hq rfl (hca _ _ S.2.2.2) (hq2.trans (by rw [hct])) hcl (zi_in z1 (by omega) (by omega)) d (fun H1 locs1 hP1 _ hS1 => ?_)
  have hids : zids (zup σ (41 + l) (σ 40 l) e) = zids σ := zids_up (by omega) (by omega) (by omega) (by omega)
  rw [zi_cl z1 (by omega), ← hro, gw_set (zD_va hD _) hi (ct' := ct g ad (zup σ (41 + l) (σ 40 l) e)) ?_ (fun u hu hne => ?_)] at hP1
  · exact kk H1 locs1 ls ⟨by unfold zP; rw [hids]; exact hP1, hD, hids, hS1⟩ hl
  · show ctE g ad _ l = _
    simp only [ctE, zup_f σ (σ 40 l) e (show 47 ≠ 41 + l by omega)]
    refine inl_q (fun x => ?_)
    rw [hw, Int.toNat_natCast]
    exact congrFun (up_ref ad (lst l) σ (41 + l) w e) x
  · refine ct_fam (fun k hk => zup_f σ _ e (fun h => hne ?_))
    subst h
    exact fam_list hl6 hu hk
theorem xl_size {index l : Nat} {e : Int} (C : zX E cc "java/util/ArrayList" D g rm nl) (hl6 : l < 6) (hc : σ 40 l < σ 47 l) (hlink : Cond.fieldLink "java/util/ArrayList" index "java/util/ArrayList" "size" "I" ∈ lw_g) (d : decode cc pc = .ok (.putfield index, 3))
    (kk : zW E (zOK D A (zst E) g ad) k n (pc + 3) L st (zup (zup σ (41 + l) (σ 40 l) e) 40 l (σ 40 l + 1))) : zW E (zOl D A (zst E) g ad σ) k n pc L (.int (zi (σ 40 l + 1)) :: .ref (ad (1, l)) :: st) (zup σ (41 + l) (σ 40 l) e) := by
  obtain ⟨p, l0, e0, R, s, m, args, below, meth, c, nL, Z⟩ := E
  obtain ⟨⟨hx, hb, hml, hown, hts⟩, hK, hRm, hN⟩ := C
  intro H locs ls ho hl
  obtain ⟨hP, hD0, hids, hS⟩ := ho
  have hD : va_D A (gw (zids (zup σ (41 + l) (σ 40 l) e)) ad (ct g ad (zup σ (41 + l) (σ 40 l) e))) := by
    rw [hids]
    exact zD_va hD0 _
  obtain ⟨z1, z2, z3, z4⟩ := hD0.2.2.2 l hl6
  generalize hτ : zup σ (41 + l) (σ 40 l) e = τ at *
  obtain ⟨q, hi, hq⟩ := gw_get (ad := ad) (ct := ct g ad τ) (zids_fix (σ := τ) (zfix_l hl6))
  refine va_put (C := "java/util/ArrayList") (T := F_AL) (N := 3) (ci := 0) (fs := ctL g ad τ l) hx hb hts i_AL t_AL t_AL_ok n_AL hown hK hP hD hS q hq rfl 1 (by decide) (hts _ hlink) (fun _ h9 => h9) rfl (t_AL_ok 1 (by decide)) rfl rfl (by show 1 < 3; decide) d (fun H1 locs1 hP1 _ hS1 => ?_)
  have hids2 : zids (zup τ 40 l (σ 40 l + 1)) = zids τ := zids_up (by omega) (by omega) (by omega) (by omega)
  rw [gw_set hD hi (ct' := ct g ad (zup τ 40 l (σ 40 l + 1))) ?_ (fun u hu hne => ?_)] at hP1
  · refine kk H1 locs1 ls ⟨by unfold zP; rw [hids2]; exact hP1, ⟨?_, ?_, zids_nd _, ?_⟩, hS1⟩ hl
    · rw [hids2, hids]
      exact hD0.1
    · rw [hids2, hids]
      exact hD0.2.1
    · intro l' hl'
      obtain ⟨y1, y2, y3, y4⟩ := hD0.2.2.2 l' hl'
      rw [← hτ, zup_f _ (l : Int) (σ 40 l + 1) (show 47 ≠ 40 by decide), zup_f _ (l : Int) (σ 40 l + 1) (show 41 + l' ≠ 40 by omega), zup_f σ (σ 40 l) e (show 47 ≠ 41 + l by omega)]
      by_cases hll : l' = l
      · subst hll
        rw [zup_at]
        refine ⟨by omega, by omega, y3, fun i hi => ?_⟩
        rw [zup_ni σ (41 + l') e (show i ≠ σ 40 l' by omega)]
        exact y4 i (by omega)
      · rw [zup_ni _ 40 (σ 40 l + 1) (show (l' : Int) ≠ l by omega), zup_f σ (σ 40 l) e (show 40 ≠ 41 + l by omega), zup_f σ (σ 40 l) e (show 41 + l' ≠ 41 + l by omega)]
        exact ⟨y1, y2, y3, y4⟩
  · show Sum.inr (0, ctL g ad _ l) = _
    simp only [ctL, zup_at, zup_f τ (l : Int) (σ 40 l + 1) (show 47 ≠ 40 by decide), zup_f τ (l : Int) (σ 40 l + 1) (show 48 ≠ 40 by decide)]
    rfl
  · obtain ⟨a, b⟩ := u
    by_cases h1 : a = 1
    · subst h1
      have hb : b ≠ l := fun h => hne (by rw [h])
      simp only [ct, ctL, zup_ni τ 40 (σ 40 l + 1) (show (b : Int) ≠ l by omega), zup_f τ (l : Int) (σ 40 l + 1) (show 47 ≠ 40 by decide), zup_f τ (l : Int) (σ 40 l + 1) (show 48 ≠ 40 by decide)]
    · refine ct_fam (fun k hk => zup_f τ _ _ (fun h => ?_)) <;> (have hz := zids_sort hu) <;> (rcases a with _ | _ | _ | _ | _ | _ | _ | a) <;> first | (rcases b with _ | _ | _ | b <;> simp only [fam] at hk <;> omega) | (simp only [fam] at hk; omega)
theorem w_mc {s : State} {args : Array Value} (hts : ∀ w ∈ lw_g, w.before args s = true) (x : ClassId × Class × Nat × Field) (h : s.fieldFound? "java/util/AbstractList" "modCount" "I" = some x) : s.fieldFound? "java/util/ArrayList" "modCount" "I" = some x := by
  have w1 : Cond.sameField "java/util/ArrayList" "java/util/AbstractList" "modCount" "I" ∈ lw_g := List.mem_filter.mpr ⟨List.mem_append_right _ (List.mem_of_getElem? (i := 54) (by decide +kernel)), rfl⟩
  exact u_same (hts _ w1) x h
theorem xl_getMC {index l : Nat} (C : zX E cc "java/util/ArrayList" D g rm nl) (hl6 : l < 6) (hlink : Cond.fieldLink "java/util/ArrayList" index "java/util/ArrayList" "modCount" "I" ∈ lw_g) (d : decode cc pc = .ok (.getfield index, 3))
    (kk : zW E (zOK D A (zst E) g ad) k n (pc + 3) L (.int (zi (σ 48 l)) :: st) σ) : zW E (zOK D A (zst E) g ad) k n pc L (.ref (ad (1, l)) :: st) σ := by
  obtain ⟨p, l0, e0, R, s, m, args, below, meth, c, nL, Z⟩ := E
  obtain ⟨⟨hx, hb, hml, hown, hts⟩, hK, hRm, hN⟩ := C
  intro H locs ls ho hl
  obtain ⟨q, hi, hq⟩ := gw_get (ad := ad) (ct := ct g ad σ) (zids_fix (σ := σ) (zfix_l hl6))
  exact va_get (C := "java/util/ArrayList") (T := F_AL) (N := 3) (ci := 0) (fs := ctL g ad σ l) hx hb hts i_AL hown hK ho.1 q hq rfl 2 (by decide) (hts _ hlink) (w_mc hts) rfl d (kk H locs ls ho hl)
theorem xl_putMC {index l : Nat} {v : Int} (C : zX E cc "java/util/ArrayList" D g rm nl) (hl6 : l < 6) (hlink : Cond.fieldLink "java/util/ArrayList" index "java/util/ArrayList" "modCount" "I" ∈ lw_g) (d : decode cc pc = .ok (.putfield index, 3))
    (kk : zW E (zOK D A (zst E) g ad) k n (pc + 3) L st (zup σ 48 l v)) : zW E (zOK D A (zst E) g ad) k n pc L (.int (zi v) :: .ref (ad (1, l)) :: st) σ := by
  obtain ⟨p, l0, e0, R, s, m, args, below, meth, c, nL, Z⟩ := E
  obtain ⟨⟨hx, hb, hml, hown, hts⟩, hK, hRm, hN⟩ := C
  intro H locs ls ho hl
  obtain ⟨hP, hD, hS⟩ := ho
  obtain ⟨q, hi, hq⟩ := gw_get (ad := ad) (ct := ct g ad σ) (zids_fix (σ := σ) (zfix_l hl6))
  refine va_put (C := "java/util/ArrayList") (T := F_AL) (N := 3) (ci := 0) (fs := ctL g ad σ l) hx hb hts i_AL t_AL t_AL_ok n_AL hown hK hP (zD_va hD _) hS q hq rfl 2 (by decide) (hts _ hlink) (w_mc hts) rfl (t_AL_ok 2 (by decide)) rfl rfl (by show 2 < 3; decide) d (fun H1 locs1 hP1 _ hS1 => ?_)
  have hids2 : zids (zup σ 48 l v) = zids σ := zids_up (by omega) (by omega) (by omega) (by omega)
  rw [gw_set (zD_va hD _) hi (ct' := ct g ad (zup σ 48 l v)) ?_ (fun u hu hne => ?_)] at hP1
  · exact kk H1 locs1 ls ⟨by unfold zP; rw [hids2]; exact hP1, zD_ids hids2 (fun k' _ _ => zup_f σ _ v (by omega)) hD, hS1⟩ hl
  · show Sum.inr (0, ctL g ad _ l) = _
    simp only [ctL, zup_at, zup_f σ (l : Int) v (show 47 ≠ 48 by decide), zup_f σ (l : Int) v (show 40 ≠ 48 by decide)]
    rfl
  · obtain ⟨a, b⟩ := u
    by_cases h1 : a = 1
    · subst h1
      have hb : b ≠ l := fun h => hne (by rw [h])
      simp only [ct, ctL, zup_ni σ 48 v (show (b : Int) ≠ l by omega), zup_f σ (l : Int) v (show 47 ≠ 48 by decide), zup_f σ (l : Int) v (show 40 ≠ 48 by decide)]
    · refine ct_fam (fun k hk => zup_f σ _ _ (fun h => ?_)) <;> (have hz := zids_sort hu) <;> (rcases a with _ | _ | _ | _ | _ | _ | _ | a) <;> first | (rcases b with _ | _ | _ | b <;> simp only [fam] at hk <;> omega) | (have := (zids_two hu).1; simp only [fam] at hk; omega) | (simp only [fam] at hk; omega)
end ZLD
set_option maxHeartbeats 4000000 in
theorem c_AL_grow0 (lc : Launch) (D : va_G) (g : zG) (ad : zA) (l : Nat) (hl6 : l < 6) (Q : Int → zS → Prop) (σ : zS) (hw : zWf σ) (hs : σ 40 l = σ 47 l) (h60 : σ 40 l < 60) (h : ∀ c : Int, σ 40 l < c → Q l (zup σ 47 l c)) (sz : Nat) : zHr 2 lc y_AL_grow0 b_AL_grow0 1 (some (.array (.object "java/lang/Object"))) { frames := 4, cells := 1, slots := 100, locals := 127 } D g ad σ [.ref (ad (1, l))] Q sz 1 100 := by
  refine zA_of (by decide) (Nat.le_of_ble_eq_true rfl) (fun E C R S hA => ?_)
  have C : zX E b_AL_grow0 "java/util/ArrayList" D g { frames := 4, cells := 1, slots := 100, locals := 127 } 1 := C
  refine z_sub (L' := [(0, .ref (ad (1, l)))]) [0] rfl ?_
  refine z_aload_n C d_AL_grow0_0 0 rfl ?_
  refine z_aload_n C (pc := 1) d_AL_grow0_1 0 rfl ?_
  refine x_getL (v := .int (zi (σ 40 l))) C l 1 hl6 (by decide) rfl rfl wd_51 (pc := 2) d_AL_grow0_2 ?_
  refine z_iconst C (pc := 5) d_AL_grow0_5 ?_
  refine z_iadd C (pc := 6) d_AL_grow0_6 ?_
  refine z_sub (L' := []) [] rfl ?_
  refine xa_callVr (As := [.int (zi (σ 40 l + 1))]) (Q := Q) (P := True) (tr := 2) (fun _ => []) (fun _ => []) C S hA fy_AL_grow1 (1, l) (zids_fix (zfix_l hl6)) rfl rfl wd_251 (pc := 7) d_AL_grow0_7 ⟨rfl, rfl, Nat.le_of_ble_eq_true rfl, Nat.le_of_ble_eq_true rfl⟩ ⟨Nat.le_of_ble_eq_true rfl, Nat.le_of_ble_eq_true rfl⟩ rfl rfl (Nat.le_of_ble_eq_true rfl) (fun _ _ => ⟨rfl, rfl⟩) trivial (fun _ sz => c_AL_grow1 (zln E) D g ad l hl6 Q σ hw hs h60 h sz) (fun r τ ad' hX hQ => ?_)
  exact za_aret C R hX (Or.inr ⟨_, rfl⟩) d_AL_grow0_10 hQ
set_option maxHeartbeats 4000000 in
theorem c_AL_add3 (lc : Launch) (D : va_G) (g : zG) (ad : zA) (l : Nat) (hl6 : l < 6) (e : Int) (Q : zS → Prop) (σ : zS) (hw : zWf σ) (he : zel σ l e) (h60 : σ 40 l < 60) (h : ∀ c : Int, Q (zup (zup (zup σ 47 l c) (41 + l) (σ 40 l) e) 40 l (σ 40 l + 1))) (sz : Nat) : zHv lc y_AL_add3 b_AL_add3 4 none { frames := 5, cells := 1, slots := 100, locals := 147 } D g ad σ [.ref (ad (1, l)), zr ad (lst l) e, .ref (if 0 < σ 47 l then ad (2, l) else g.2.1), .int (zi (σ 40 l))] Q sz 1 100 := by
  refine zA_of (by decide) (by simp [lg_sl, zr_cat, cat_i, cat_r]) (fun E C R S hA => ?_)
  have C : zX E b_AL_add3 "java/util/ArrayList" D g { frames := 5, cells := 1, slots := 100, locals := 147 } 4 := C
  refine z_sub (L' := [(0, .ref (ad (1, l))), (1, zr ad (lst l) e), (2, .ref (if 0 < σ 47 l then ad (2, l) else g.2.1)), (3, .int (zi (σ 40 l)))]) [0, 1, 2, 3] (by simp [lv_args, lv_pick, zr_cat, cat_i, cat_r]) ?_
  refine z_ls (fun hls => ?_)
  obtain ⟨q1, q2, q3, q4⟩ := hls l hl6
  have tail : ∀ (k n : Nat) (ad' : zA) (τ : zS) (L : List (Nat × Value)), k ≤ 1 → n ≤ 100 → zEx ad σ ad' τ → zel τ l e → τ 40 l = σ 40 l → τ 40 l < τ 47 l → Q (zup (zup τ (41 + l) (τ 40 l) e) 40 l (τ 40 l + 1)) → zW E (zOK D (zAx ad σ sz) (zst E) g ad') k n 11 [(0, .ref (ad' (1, l))), (1, zr ad' (lst l) e), (2, .ref (ad' (2, l))), (3, .int (zi (τ 40 l)))] [] τ := by
    intro k n ad' τ L hk hn hX he' h40 h47 hQ
    refine zW.widen (k' := 1) (n' := 100) hk hn ?_
    refine z_aload_n C d_AL_add3_11 2 rfl ?_
    refine z_iload_n C (pc := 12) d_AL_add3_12 3 rfl ?_
    refine z_aloadZ_n C (pc := 13) d_AL_add3_13 1 rfl ?_
    refine xl_ast C S hl6 h47 he' (pc := 14) d_AL_add3_14 ?_
    refine z_aload_n C (pc := 15) d_AL_add3_15 0 rfl ?_
    refine z_iload_n C (pc := 16) d_AL_add3_16 3 rfl ?_
    refine z_iconst C (pc := 17) d_AL_add3_17 ?_
    refine z_iadd C (pc := 18) d_AL_add3_18 ?_
    refine xl_size C hl6 h47 wd_51 (pc := 19) d_AL_add3_19 ?_
    exact za_vret C R ((hX.up (by omega) (by omega) (by omega)).up (by decide) (by decide) (by decide)) d_AL_add3_22 hQ
  refine z_iload_n C d_AL_add3_0 3 rfl ?_
  refine z_aload_n C (pc := 1) d_AL_add3_1 2 rfl ?_
  have hlen : zW E (zOK D (zAx ad σ sz) (zst E) g ad) 0 0 3 [(0, .ref (ad (1, l))), (1, zr ad (lst l) e), (2, .ref (if 0 < σ 47 l then ad (2, l) else g.2.1)), (3, .int (zi (σ 40 l)))] [.int (zi (σ 47 l)), .int (zi (σ 40 l))] σ := by
    refine z_icmp_ne (tgt := 11) C d_AL_add3_3 (by decide) (by omega) (by omega) (P1 := σ 40 l = σ 47 l) (P2 := ¬ σ 40 l = σ 47 l) ⟨id, id⟩ (fun hne => ?_) (fun heq => ?_)
    · rw [if_pos (show 0 < σ 47 l by omega)]
      have h9 := h (σ 47 l)
      rw [zup_self] at h9
      exact tail 0 0 ad σ [] (by decide) (by decide) zEx.rf he rfl (by omega) h9
    · refine z_aload_n C (pc := 6) d_AL_add3_6 0 rfl ?_
      refine z_sub (L' := [(0, .ref (ad (1, l))), (1, zr ad (lst l) e), (3, .int (zi (σ 40 l)))]) [0, 1, 3] rfl ?_
      obtain ⟨t, ci, r0, fs, ht, hr, hro, hct, hcl, hca⟩ := zel_at (ad := ad) (g := g) he
      refine xa_callVr (As := []) (Q := fun r τ => r = l ∧ ∃ c, σ 40 l < c ∧ τ = zup σ 47 l c) (P := True) (tr := 2) (fun ad => [(0, .ref (ad (1, l))), (1, zr ad (lst l) e), (3, .int (zi (σ 40 l)))]) (fun _ => []) C S hA fy_AL_grow0 (1, l) (zids_fix (zfix_l hl6)) rfl rfl wd_247 (pc := 7) d_AL_add3_7 ⟨rfl, rfl, Nat.le_of_ble_eq_true rfl, Nat.le_of_ble_eq_true rfl⟩ ⟨Nat.le_of_ble_eq_true rfl, Nat.le_of_ble_eq_true rfl⟩ rfl rfl (Nat.le_of_ble_eq_true rfl) (fun ad' ha => ⟨?_, rfl⟩) trivial (fun _ sz => c_AL_grow0 (zln E) D g ad l hl6 _ σ hw heq h60 (fun c hc => ⟨rfl, c, hc, rfl⟩) sz) (fun r τ ad' hX hQ => ?_)
      · have e1 : zr ad' (lst l) e = zr ad (lst l) e := by
          unfold lst
          by_cases h5 : l = 5
          · subst h5
            exact zr_agC ha he.1 he.2
          · rw [if_neg h5]
            have := he.2
            rw [if_neg h5] at this
            exact zr_ag ha (Or.inr ⟨he.1, this⟩)
        rw [e1, ha (1, l) (zids_fix (zfix_l hl6)) (by show (1 : Nat) ≠ 2; decide)]
      · obtain ⟨rfl, c, hcl2, rfl⟩ := hQ
        have e2 : zr ad' 2 (l : Int) = .ref (ad' (2, l)) := by
          rw [zr_s _ 2 (by omega), Int.toNat_natCast]
        rw [e2]
        refine z_astore_n (L' := [(2, .ref (ad' (2, l))), (0, .ref (ad' (1, l))), (1, zr ad' (lst l) e), (3, .int (zi (σ 40 l)))]) C (pc := 10) d_AL_add3_10 (by decide) (congrArg (List.cons _) (flt_eq (j := 2) rfl (List.forall_mem_singleton.mpr (zr_cat _ _ _)) rfl)) ?_
        refine z_sub (L' := [(0, .ref (ad' (1, l))), (1, zr ad' (lst l) e), (2, .ref (ad' (2, l))), (3, .int (zi (σ 40 l)))]) [1, 2, 0, 3] rfl ?_
        refine z_ls (fun hls2 => ?_)
        obtain ⟨y1, y2, y3, y4⟩ := hls2 l hl6
        have h40 : zup σ 47 l c 40 l = σ 40 l := by rw [zup_ne σ (l : Int) c l (by decide)]
        have h9 := h c
        rw [← h40]
        refine tail 1 100 ad' (zup σ 47 l c) [] (Nat.le_refl _) (Nat.le_refl _) hX ?_ h40 ?_ (by rw [h40]; exact h9)
        · unfold zel
          rw [zup_ne σ (l : Int) c 0 (by split <;> decide)]
          exact he
        · rw [h40, zup_at]
          exact hcl2
  by_cases hc : 0 < σ 47 l
  · rw [if_pos hc]
    rw [if_pos hc] at hlen
    exact xl_alen C hl6 hc q3 (pc := 2) d_AL_add3_2 hlen
  · rw [if_neg hc]
    rw [if_neg hc, show σ 47 l = 0 by omega] at hlen
    exact xl_tlen C S (pc := 2) d_AL_add3_2 hlen
theorem zWf_mc {σ : zS} {l : Nat} {m : Int} (h : zWf σ) : zWf (zup σ 48 l m) := by
  have e : ∀ k, k ≠ 48 → zup σ 48 l m k = σ k := fun k hk => zup_f σ (l : Int) m hk
  unfold zWf
  simp only [e 70 (by decide), e 71 (by decide), e 72 (by decide), e 2 (by decide), e 3 (by decide), e 5 (by decide), e 14 (by decide), e 40 (by decide), e 46 (by decide), e 50 (by decide), e 51 (by decide), e 25 (by decide), e 30 (by decide), e 31 (by decide), e 32 (by decide)]
  obtain ⟨w1, w2, w3, w4, w5, w6⟩ := h
  refine ⟨w1, fun l' hl' i h0 h1 => ?_, w3, w4, w5, w6⟩
  rw [e (41 + l') (by omega)]
  exact w2 l' hl' i h0 h1
/-- what is asked when an element is put at the end of list l: the lists' other numbers are of no matter -/
def wp_add (l : Nat) (Q : zS → Prop) (e : Int) (σ : zS) : Prop := zWf σ ∧ zel σ l e ∧ σ 40 l < 60 ∧ ∀ c m, Q (zadd σ l e c m)
set_option maxHeartbeats 4000000 in
theorem c_AL_add (lc : Launch) (D : va_G) (g : zG) (ad : zA) (l : Nat) (hl6 : l < 6) (e : Int) (Q : zS → Prop) (σ : zS) (h : wp_add l Q e σ) (sz : Nat) : zHi lc y_AL_add b_AL_add 2 (some .boolean) { frames := 6, cells := 1, slots := 100, locals := 170 } D g ad σ [.ref (ad (1, l)), zr ad (lst l) e] (fun _ τ => Q τ) sz 1 100 := by
  obtain ⟨hw, he, h60, h⟩ := h
  refine zA_of (by decide) (by simp [lg_sl, zr_cat, cat_i, cat_r]) (fun E C R S hA => ?_)
  have C : zX E b_AL_add "java/util/ArrayList" D g { frames := 6, cells := 1, slots := 100, locals := 170 } 2 := C
  refine z_sub (L' := [(0, .ref (ad (1, l))), (1, zr ad (lst l) e)]) [0, 1] (by simp [lv_args, lv_pick, zr_cat, cat_i, cat_r]) ?_
  refine z_aload_n C d_AL_add_0 0 rfl ?_
  refine z_dup C (pc := 1) d_AL_add_1 rfl ?_
  refine xl_getMC C hl6 wd_53 (pc := 2) d_AL_add_2 ?_
  refine z_iconst C (pc := 5) d_AL_add_5 ?_
  refine z_iadd C (pc := 6) d_AL_add_6 ?_
  refine xl_putMC C hl6 wd_53 (pc := 7) d_AL_add_7 ?_
  have h40 : zup σ 48 l (σ 48 l + 1) 40 l = σ 40 l := by rw [zup_ne σ (l : Int) _ l (by decide)]
  refine z_aload_n C (pc := 10) d_AL_add_10 0 rfl ?_
  refine z_aloadZ_n C (pc := 11) d_AL_add_11 1 rfl ?_
  refine z_aload_n C (pc := 12) d_AL_add_12 0 rfl ?_
  refine x_getL (v := .ref (if 0 < zup σ 48 l (σ 48 l + 1) 47 l then ad (2, l) else g.2.1)) C l 0 hl6 (by decide) rfl rfl wd_50 (pc := 13) d_AL_add_13 ?_
  refine z_aload_n C (pc := 16) d_AL_add_16 0 rfl ?_
  refine x_getL (v := .int (zi (zup σ 48 l (σ 48 l + 1) 40 l))) C l 1 hl6 (by decide) rfl rfl wd_51 (pc := 17) d_AL_add_17 ?_
  refine z_sub (L' := []) [] rfl ?_
  refine xa_callVv (As := [zr ad (lst l) e, .ref (if 0 < zup σ 48 l (σ 48 l + 1) 47 l then ad (2, l) else g.2.1), .int (zi (zup σ 48 l (σ 48 l + 1) 40 l))]) (Q := Q) (P := True) (fun _ => []) (fun _ => []) C S hA fy_AL_add3 (1, l) (zids_fix (zfix_l hl6)) rfl rfl wd_243 (pc := 20) d_AL_add_20 ⟨rfl, rfl, Nat.le_of_ble_eq_true rfl, Nat.le_of_ble_eq_true rfl⟩ ⟨Nat.le_of_ble_eq_true rfl, Nat.le_of_ble_eq_true rfl⟩ rfl rfl (Nat.le_of_ble_eq_true rfl) (fun _ _ => ⟨rfl, rfl⟩) trivial (fun _ sz => c_AL_add3 (zln E) D g ad l hl6 e Q _ (zWf_mc hw) (by unfold zel; rw [zup_ne σ (l : Int) _ 0 (by split <;> decide)]; exact he) (by rw [h40]; exact h60) (fun c => by rw [h40]; exact h c (σ 48 l + 1)) sz) (fun τ ad' hX hQ => ?_)
  refine z_iconst C (pc := 23) d_AL_add_23 ?_
  exact za_zret C R ((zEx.rf (ad := ad) (σ := σ)).up (k := 48) (i := l) (v := σ 48 l + 1) (by decide) (by decide) (by decide) |>.trans hX) d_AL_add_24 (by decide) hQ
theorem zEx.upE {ad ad1 : zA} {σ σ1 τ : zS} {k : Nat} {i v : Int} (h : zEx ad σ ad1 σ1) (e : τ = zup σ1 k i v) (h1 : 70 ≠ k) (h2 : 71 ≠ k) (h3 : 72 ≠ k) : zEx ad σ ad1 τ := by
  rw [e]
  exact h.up h1 h2 h3
