/-! ArrayList.add: rows beside a raw array, and the walks of newLength, copyOf, grow -/
theorem zi_nat {m : Int} (h : 0 ≤ m) : Int32.ofNat m.toNat = zi m := by
  obtain ⟨n, rfl⟩ := Int.eq_ofNat_of_zero_le h
  rw [Int.toNat_natCast]
  exact Int32.ofInt_eq_ofNat.symm
section ZLB
variable {E : zE} {k n pc : Nat} {L L' : List (Nat × Value)} {st : List Value} {σ : zS} {cc : ByteArray} {own : String} {D : va_G} {g : zG} {rm : Room} {nl : Nat} {A : Nat → Prop} {ad : zA} {OK : zS → Heap → List Loc → Prop}
theorem xg_mmin {index : Nat} {x y : Int} (C : zX E cc own D g rm nl) (hlink : Cond.methodLink own index y_MA_min ∈ lw_g) (hR : 1 ≤ rm.frames ∧ 21 ≤ rm.locals ∧ k ≤ rm.cells ∧ n ≤ rm.slots) (hx1 : zc x) (hy1 : zc y) (hst : (st.map fun v => v.category).sum ≤ 8) (d : decode cc pc = .ok (.invokestatic index, 3))
    (kk : zW E OK k n (pc + 3) L (.int (zi (if y < x then y else x)) :: st) σ) : zW E OK k n pc L (.int (zi y) :: .int (zi x) :: st) σ := by
  obtain ⟨p, l, e, R, s, m, args, below, meth, c, nL, Z⟩ := E
  obtain ⟨⟨hx, hb, hml, hown, hts⟩, hK, hRm, hN⟩ := C
  subst hRm
  intro H locs ls ho hl
  refine va_mmin hx hb (hml.trans hl.1.symm) hown (hts _ hlink) (hts _ fs_MA_min.1) (hts _ fs_MA_min.2.1) (hts _ wc_MA_min) hR.1 (by omega) hR.2.2.1 hR.2.2.2 d ?_
  have e1 : (if zi y < zi x then zi y else zi x) = zi (if y < x then y else x) := by
    by_cases h : y < x
    · rw [if_pos h, if_pos ((zi_lt hy1 hx1).mpr h)]
    · rw [if_neg h, if_neg (fun q => h ((zi_lt hy1 hx1).mp q))]
  rw [e1]
  exact kk H locs ls ho hl
theorem xl_ldcM {index : Nat} (C : zX E cc own D g rm nl) (S : zSt g A (zst E) (zst E).heap) (hlink : Cond.classLink own index "[Ljava/lang/Object;" ∈ lw_g) (d : decode cc pc = .ok (.ldc index, 2)) (kk : zW E OK k n (pc + 2) L (.ref (g.1 9) :: st) σ) : zW E OK k n pc L st σ := by
  obtain ⟨p, l, e, R, s, m, args, below, meth, c, nL, Z⟩ := E
  obtain ⟨⟨hx, hb, hml, hown, hts⟩, hK, hRm, hN⟩ := C
  intro H locs ls ho hl
  exact va_ldcM hx hb hown (hts _ hlink) S.2.2.2.2.2.2.2.2.2.2.2 d (kk H locs ls ho hl)
theorem xl_same {a tgt : Nat} {off : Int} (C : zX E cc own D g rm nl) (d : decode cc pc = .ok (.if_acmp .ne off, 3)) (ht : (pc : Int) + off = (tgt : Int)) (kk : zW E OK k n (pc + 3) L st σ) : zW E OK k n pc L (.ref a :: .ref a :: st) σ := by
  obtain ⟨p, l, e, R, s, m, args, below, meth, c, nL, Z⟩ := E
  obtain ⟨⟨hx, hb, hml, hown, hts⟩, hK, hRm, hN⟩ := C
  intro H locs ls ho hl
  exact lv_acmp_ne (rx := some a) (ry := some a) hx hb d ht (fun q => absurd rfl q) (fun _ => kk H locs ls ho hl)
theorem xl_sameE {a tgt : Nat} {off : Int} (C : zX E cc own D g rm nl) (d : decode cc pc = .ok (.if_acmp .eq off, 3)) (ht : (pc : Int) + off = (tgt : Int)) (kk : zW E OK k n tgt L st σ) : zW E OK k n pc L (.ref a :: .ref a :: st) σ := by
  obtain ⟨p, l, e, R, s, m, args, below, meth, c, nL, Z⟩ := E
  obtain ⟨⟨hx, hb, hml, hown, hts⟩, hK, hRm, hN⟩ := C
  intro H locs ls ho hl
  exact lv_acmp_eq (rx := some a) (ry := some a) hx hb d ht (fun _ => kk H locs ls ho hl) (fun q => absurd rfl q)
theorem xl_getC {index l : Nat} (C : zX E cc own D g rm nl) (S : zSt g A (zst E) (zst E).heap) (hl6 : l < 6) (hc : 0 < σ 47 l) (hlink : Cond.methodLink own index ⟨"java/lang/Object", "getClass", "()Ljava/lang/Class;"⟩ ∈ lw_g) (hR : 1 ≤ rm.frames ∧ 22 ≤ rm.locals) (hst : (st.map fun v => v.category).sum ≤ 8) (d : decode cc pc = .ok (.invokevirtual index, 3)) (kk : zW E (zOK D A (zst E) g ad) k n (pc + 3) L (.ref (g.1 9) :: st) σ) : zW E (zOK D A (zst E) g ad) k n pc L (.ref (ad (2, l)) :: st) σ := by
  obtain ⟨p, l0, e, R, s, m, args, below, meth, c, nL, Z⟩ := E
  obtain ⟨⟨hx, hb, hml, hown, hts⟩, hK, hRm, hN⟩ := C
  subst hRm
  intro H locs ls ho hl
  have w1 : Cond.selects "[Ljava/lang/Object;" ⟨"java/lang/Object", "getClass", "()Ljava/lang/Class;"⟩ ⟨"java/lang/Object", "getClass", "()Ljava/lang/Class;"⟩ ∈ lw_g := List.mem_filter.mpr ⟨List.mem_append_right _ (List.mem_of_getElem? (i := 1108) (by decide +kernel)), rfl⟩
  have w2 : Cond.instanceMethod ⟨"java/lang/Object", "getClass", "()Ljava/lang/Class;"⟩ ∈ lw_g := wd_269
  have w3 : Cond.native ⟨"java/lang/Object", "getClass", "()Ljava/lang/Class;"⟩ ∈ lw_g := List.mem_filter.mpr ⟨List.mem_append_right _ (List.mem_of_getElem? (i := 282) (by decide +kernel)), rfl⟩
  obtain ⟨q, -, hq⟩ := gw_get (ad := ad) (ct := ct g ad σ) (zids_ea (σ := σ) hl6 hc)
  have hcell := ho.1 q _ hq
  obtain ⟨kA, comp, k1, k2, k3, k4⟩ := (hK.2 3 (g.1 3, .object "java/lang/Object") rfl).2
  have es : "[" ++ (FieldType.object "java/lang/Object").toString = "[Ljava/lang/Object;" := by decide +kernel
  rw [es] at k4
  exact va_getC hx hb (hml.trans hl.1.symm) hown (hts _ hlink) (va_Dc.use S.2.2.2.2.2.2.2.2.2.2.1) (hts _ w1) (hts _ w2) (hts _ w3) S.2.2.2.2.2.2.2.2.2.2.2 ⟨_, hcell, rfl, k4⟩ hR.1 (by omega) d (kk H locs ls ho hl)
theorem xl_alen {l : Nat} (C : zX E cc own D g rm nl) (hl6 : l < 6) (hc : 0 < σ 47 l) (h2 : σ 47 l ≤ 1000) (d : decode cc pc = .ok (.arraylength, 1)) (kk : zW E (zOK D A (zst E) g ad) k n (pc + 1) L (.int (zi (σ 47 l)) :: st) σ) : zW E (zOK D A (zst E) g ad) k n pc L (.ref (ad (2, l)) :: st) σ := by
  obtain ⟨p, l0, e, R, s, m, args, below, meth, c, nL, Z⟩ := E
  obtain ⟨⟨hx, hb, hml, hown, hts⟩, hK, hRm, hN⟩ := C
  intro H locs ls ho hl
  obtain ⟨q, -, hq⟩ := gw_get (ad := ad) (ct := ct g ad σ) (zids_ea (σ := σ) hl6 hc)
  refine va_alen hx hb hK ho.1 q 3 hq rfl (v := zi (σ 47 l)) ?_ d (kk H locs ls ho hl)
  exact zi_nat (m := σ 47 l) (by omega)
theorem xe_alen {l q c : Nat} {f : Nat → Option Nat} (C : zX E cc own D g rm nl) (hl6 : l < 6) (hc : 0 < σ 47 l) (h2 : σ 47 l ≤ 1000) (d : decode cc pc = .ok (.arraylength, 1)) (kk : zW E (zOe D A (zst E) g ad q c f) k n (pc + 1) L (.int (zi (σ 47 l)) :: st) σ) : zW E (zOe D A (zst E) g ad q c f) k n pc L (.ref (ad (2, l)) :: st) σ := by
  obtain ⟨p, l0, e, R, s, m, args, below, meth, c', nL, Z⟩ := E
  obtain ⟨⟨hx, hb, hml, hown, hts⟩, hK, hRm, hN⟩ := C
  intro H locs ls ho hl
  obtain ⟨j, h1, hq⟩ := gw_get (ad := ad) (ct := ct g ad σ) (zids_ea (σ := σ) hl6 hc)
  have hj := (List.getElem?_eq_some_iff.mp h1).1
  refine va_alen hx hb hK ho.1 j 3 (by rw [List.getElem?_append_left (by simp [gw]; omega)]; exact hq) rfl (v := zi (σ 47 l)) ?_ d (kk H locs ls ho hl)
  exact zi_nat (m := σ 47 l) (by omega)
/-- the elements of a list's array may lie in an array of Objects -/
theorem zAny {s : State} {H : Heap} {ws : va_W} {l : Nat} (hK : va_K D classes (ztys g) s) (S : zSt g A s s.heap) (hw : zWf σ) (hls : zLs σ) (hl6 : l < 6) (hP : va_P D classes (gw (zids σ) ad (ct g ad σ) ++ ws) H) (x y : Nat) (hy : zro ad (lst l) (σ (41 + l) x) = some y) : va_Any "java/lang/Object" s H y := by
  have key : ∀ (ci : Nat) (r : vw_C) (t : zT) (fs : List Value), t ∈ zids σ → ct g ad σ t = .inr (ci, fs) → classes[ci]? = some r → va_Nw (.castable r.1 "java/lang/Object") s → va_Any "java/lang/Object" s H (ad t) := by
    intro ci r t fs ht hct hc hn
    obtain ⟨j, h1, hq⟩ := gw_get (ad := ad) (ct := ct g ad σ) ht
    have hj := (List.getElem?_eq_some_iff.mp h1).1
    refine va_rAny hK hP (q0 := j) (by rw [List.getElem?_append_left (by simp [gw]; omega)]; exact hq.trans (by rw [hct])) hc (fun comp c0 q1 q2 => ?_)
    obtain ⟨c1, t1, f1, f2, f3⟩ := Cond.castable_spec (va_Nw.use (A := #[]) rfl hn)
    cases q2.symm.trans f1
    cases q1.symm.trans f2
    exact f3
  obtain ⟨-, -, -, hr⟩ := hls l hl6
  by_cases hx : (x : Int) < σ 40 l
  · by_cases h5 : l = 5
    · subst h5
      rcases hw.2.2.1 x (by omega) hx with q | ⟨q1, q2⟩
      · rw [show (41 + 5 : Nat) = 46 from rfl, q] at hy
        cases hy
      · unfold zro at hy
        rw [if_neg (by show ¬ σ 46 x < 0; omega)] at hy
        cases hy
        exact key 5 (R_CE, F_CE, 6) _ _ (zids_cell q1 q2) rfl rfl S.2.2.2.2.2.2.2.2.2.1
    · rcases hw.2.1 l (by omega) x (by omega) hx with q | ⟨q1, q2⟩
      · rw [q] at hy
        cases hy
      · unfold zro at hy
        rw [if_neg (by omega)] at hy
        cases hy
        rw [show lst l = 4 from if_neg h5]
        exact key 4 (R_ND, F_ND, 18) _ _ (zids_node q1 q2) rfl rfl S.2.2.2.2.2.2.2.2.1
  · rw [hr x (by omega)] at hy
    cases hy
theorem xe_copy {index l q : Nat} {c : Int} (C : zX E cc own D g rm nl) (S : zSt g A (zst E) (zst E).heap) (hw : zWf σ) (hl6 : l < 6) (hc : 0 < σ 47 l) (hcc : σ 47 l ≤ c) (h2 : c ≤ 1000) (hlink : Cond.methodLink own index arraycopyName ∈ lw_g) (hR : 1 ≤ rm.frames ∧ 60 ≤ rm.locals) (d : decode cc pc = .ok (.invokestatic index, 3))
    (kk : ∀ f : Nat → Option Nat, (∀ x : Nat, f x = zro ad (lst l) (σ (41 + l) x)) → zW E (zOe D A (zst E) g ad q c.toNat f) k n (pc + 3) L [] σ) : zW E (zOe D A (zst E) g ad q c.toNat (fun _ => none)) k n pc L [.int (zi (σ 47 l)), .int (zi 0), .ref q, .int (zi 0), .ref (ad (2, l))] σ := by
  obtain ⟨p, l0, e, R, s, m, args, below, meth, c', nL, Z⟩ := E
  obtain ⟨⟨hx, hb, hml, hown, hts⟩, hK, hRm, hN⟩ := C
  subst hRm
  intro H locs ls ho hl
  obtain ⟨hP, hD, hz, hS⟩ := ho
  have hlen : (gw (zids σ) ad (ct g ad σ)).length = (zids σ).length := by simp [gw]
  obtain ⟨j, h1, hq⟩ := gw_get (ad := ad) (ct := ct g ad σ) (zids_ea (σ := σ) hl6 hc)
  have hj := (List.getElem?_eq_some_iff.mp h1).1
  have w1 : Cond.native arraycopyName ∈ lw_g := List.mem_filter.mpr ⟨List.mem_append_right _ (List.mem_of_getElem? (i := 294) (by decide +kernel)), rfl⟩
  have w2 : Cond.static arraycopyName ∈ lw_g := List.mem_filter.mpr ⟨List.mem_append_right _ (List.mem_of_getElem? (i := 293) (by decide +kernel)), rfl⟩
  have w3 : Cond.initialized "java/lang/System" ∈ lw_g := wd_14
  have e0 : (zi 0).toNatClampNeg = 0 := by decide
  have ec : (zi (σ 47 l)).toNatClampNeg = (σ 47 l).toNat := zi_cl (by omega) (by omega)
  have hla : (gw (zids σ) ad (ct g ad σ) ++ [(q, arE g c.toNat (fun _ => none))])[(zids σ).length]? = some (q, arE g c.toNat (fun _ => none)) := by
    rw [List.getElem?_append_right (by omega), hlen, Nat.sub_self]
    rfl
  refine va_copyM (c0 := g.1 3) (c1 := g.1 3) (n0 := (σ 47 l).toNat) (n1 := c.toNat) (f := fun x => zro ad (lst l) (σ (41 + l) x)) (g := fun _ => none) (E0 := "java/lang/Object") (E1 := "java/lang/Object") hx hb (hml.trans hl.1.symm) hown (hts _ hlink) (hts _ w1) (hts _ w2) (hts _ w3) hK hP hD hS j (zids σ).length 3 3 (by rw [List.getElem?_append_left (by omega)]; exact hq) hla rfl rfl (by decide) (by decide) (by rw [← zi_0, zi_lt (by omega) (by decide)]; omega) (by rw [e0, ec]; omega) (by rw [e0, ec]; omega) (fun i hi y hy => ?_) hR.1 (Nat.le_trans (by decide) hR.2) d (fun H1 locs1 hP1 hD1 hS1 => ?_)
  · exact zAny hK S hw hz.2.2.2 hl6 hP _ y hy
  · rw [e0, ec] at hP1 hD1
    have hset : (gw (zids σ) ad (ct g ad σ) ++ [(q, arE g c.toNat (fun _ => none))]).set (zids σ).length (q, .inl (g.1 3, c.toNat, .inr (.inr (.inr (.inr (va_cpy (fun x => zro ad (lst l) (σ (41 + l) x)) (fun _ => none) 0 0 (σ 47 l).toNat)))))) = gw (zids σ) ad (ct g ad σ) ++ [(q, arE g c.toNat (va_cpy (fun x => zro ad (lst l) (σ (41 + l) x)) (fun _ => none) 0 0 (σ 47 l).toNat))] := by
      rw [List.set_append_right _ _ (by omega), hlen, Nat.sub_self]
      rfl
    rw [hset] at hP1 hD1
    refine kk _ (fun x => ?_) H1 locs1 ls ⟨hP1, hD1, hz, hS1⟩ hl
    unfold va_cpy
    by_cases hxx : x < (σ 47 l).toNat
    · rw [if_pos ⟨Nat.zero_le _, by omega⟩]
      simp
    · rw [if_neg (by omega), (hz.2.2.2 l hl6).2.2.2 x (by have := (hz.2.2.2 l hl6).2.1; omega)]
      rfl
end ZLB
