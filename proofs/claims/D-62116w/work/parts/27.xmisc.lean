section ZT
variable {E : zE} {k n pc : Nat} {L L' : List (Nat × Value)} {st : List Value} {σ : zS} {cc : ByteArray} {own : String} {D : va_G} {g : zG} {rm : Room} {nl : Nat} {A : Nat → Prop} {ad : zA} {OK : zS → Heap → List Loc → Prop}
theorem z_tableIn {dflt lo hi x off : Int} {offs : Array Int} {len tgt : Nat} (C : zX E cc own D g rm nl) (d : decode cc pc = .ok (.tableswitch dflt lo hi offs, len)) (hx1 : zc x) (h1 : ¬ x < lo) (h2 : ¬ hi < x) (ho : offs[(x - lo).toNat]? = some off) (ht : (pc : Int) + off = (tgt : Int)) (kk : zW E OK k n tgt L st σ) : zW E OK k n pc L (.int (zi x) :: st) σ := by
  obtain ⟨p, l, e, R, s, m, args, below, meth, c, nL, Z⟩ := E
  obtain ⟨⟨hx, hb, hml, hown, hts⟩, hK, hRm, hN⟩ := C
  intro H locs ls hok hl
  exact lv_tableIn hx hb d (by rw [zi_toInt hx1]; exact h1) (by rw [zi_toInt hx1]; exact h2) (by rw [zi_toInt hx1]; exact ho) ht (kk H locs ls hok hl)
theorem z_tableOut {dflt lo hi x : Int} {offs : Array Int} {len tgt : Nat} (C : zX E cc own D g rm nl) (d : decode cc pc = .ok (.tableswitch dflt lo hi offs, len)) (hx1 : zc x) (h : x < lo ∨ hi < x) (ht : (pc : Int) + dflt = (tgt : Int)) (kk : zW E OK k n tgt L st σ) : zW E OK k n pc L (.int (zi x) :: st) σ := by
  obtain ⟨p, l, e, R, s, m, args, below, meth, c, nL, Z⟩ := E
  obtain ⟨⟨hx, hb, hml, hown, hts⟩, hK, hRm, hN⟩ := C
  intro H locs ls hok hl
  exact lv_tableOut hx hb d (by rw [zi_toInt hx1]; exact h) ht (kk H locs ls hok hl)
/-- arraycopy of all of 'initial' to 'present' -/
def zcopy (σ : zS) : zS := fun k i => if k = 54 then (if 0 ≤ i ∧ i < 196 then σ 53 i else σ 54 i) else σ k i
theorem x_copy {index : Nat} (C : zX E cc own D g rm nl) (hlink : Cond.methodLink own index arraycopyName ∈ lw_g) (hR : 1 ≤ rm.frames ∧ 60 ≤ rm.locals) (d : decode cc pc = .ok (.invokestatic index, 3))
    (kk : zW E (zOK D A (zst E) g ad) k n (pc + 3) L [] (zcopy σ)) : zW E (zOK D A (zst E) g ad) k n pc L [.int (zi 196), .int (zi 0), .ref (ad (3, 4)), .int (zi 0), .ref (ad (3, 3))] σ := by
  obtain ⟨p, l, e, R, s, m, args, below, meth, c, nL, Z⟩ := E
  obtain ⟨⟨hx, hb, hml, hown, hts⟩, hK, hRm, hN⟩ := C
  subst hRm
  intro H locs ls ho hl
  obtain ⟨hP, hD, hS⟩ := ho
  obtain ⟨q3, -, hq3⟩ := gw_get (ad := ad) (ct := ct g ad σ) (zids_fix (σ := σ) (zfix_y (l := 3) (by decide)))
  obtain ⟨q4, hi4, hq4⟩ := gw_get (ad := ad) (ct := ct g ad σ) (zids_fix (σ := σ) (zfix_y (l := 4) (by decide)))
  have w1 : Cond.native arraycopyName ∈ lw_g := List.mem_filter.mpr ⟨List.mem_append_right _ (List.mem_of_getElem? (i := 294) (by decide +kernel)), rfl⟩
  have w2 : Cond.static arraycopyName ∈ lw_g := List.mem_filter.mpr ⟨List.mem_append_right _ (List.mem_of_getElem? (i := 293) (by decide +kernel)), rfl⟩
  have w3 : Cond.initialized "java/lang/System" ∈ lw_g := List.mem_filter.mpr ⟨List.mem_append_right _ (List.mem_of_getElem? (i := 14) (by decide +kernel)), rfl⟩
  refine va_copyl (c0 := g.1 2) (c1 := g.1 2) (n0 := 196) (n1 := 196) (f := fun x => zj (σ 53 x)) (g := fun x => zj (σ 54 x)) (ty := .long) hx hb (hml.trans hl.1.symm) hown (hts _ hlink) (hts _ w1) (hts _ w2) (hts _ w3) hK hP (zD_va hD _) hS q3 q4 2 2 hq3 hq4 rfl rfl rfl (by decide) (by decide) (by decide) (by decide) (by decide) (fun _ _ => rfl) hR.1 (Nat.le_trans (by decide) hR.2) d (fun H1 locs1 hP1 _ hS1 => ?_)
  have hf : (va_cpy (fun x : Nat => zj (σ 53 x)) (fun x : Nat => zj (σ 54 x)) (zi 0).toNatClampNeg (zi 0).toNatClampNeg (zi 196).toNatClampNeg) = fun x : Nat => zj (zcopy σ 54 x) := by
    funext x
    rw [show (zi 0).toNatClampNeg = 0 by decide, show (zi 196).toNatClampNeg = 196 by decide]
    simp only [va_cpy, zcopy, if_pos]
    by_cases h : x < 196
    · have h1 : (x : Int) < 196 := by omega
      simp [h, h1]
    · have h1 : ¬ (x : Int) < 196 := by omega
      simp [h, h1]
  have hids : zids (zcopy σ) = zids σ := zids_eq rfl rfl rfl rfl
  rw [hf, gw_set (zD_va hD _) hi4 (ct' := ct g ad (zcopy σ)) (e := .inl (g.1 2, 196, .inr (.inl fun x : Nat => zj (zcopy σ 54 x)))) rfl (fun u hu hne => ?_)] at hP1
  · exact kk H1 locs1 ls ⟨by unfold zP; rw [hids]; exact hP1, zD_ids hids (fun k' h1 h2 => by funext i; simp [zcopy, show k' ≠ 54 by omega]) hD, hS1⟩ hl
  · have e : ∀ f, f ≠ 54 → zcopy σ f = σ f := fun f hf => by funext i; simp [zcopy, hf]
    by_cases h3 : u.1 = 3
    · obtain ⟨a, b⟩ := u
      dsimp only at h3
      subst h3
      have hb := zids_three hu
      have hbj : b ≠ 4 := fun q => hne (by rw [q])
      rcases (show b = 0 ∨ b = 1 ∨ b = 2 ∨ b = 3 by omega) with rfl | rfl | rfl | rfl
      · simp only [ct, ctY, e 50 (by omega)]
      · simp only [ct, ctY, e 51 (by omega)]
      · simp only [ct, ctY, e 52 (by omega)]
      · simp only [ct, ctY, e 53 (by omega)]
    · exact ct_fam (fun f hf => e f (fun q => h3 (fam_y (f := f) (by omega) hu hf)))
end ZT
theorem zNz {E : zE} {pc : Nat} {L : List (Nat × Value)} {st : List Value} {σ : zS} {ad : zA} {OK : zS → Heap → List Loc → Prop} {k n t : Nat} {P : Int → Prop} {x : Int} (h : ∀ y, y = x → P y) (kk : ∀ y, y = x → P y → zW E OK k n pc L (zr ad t y :: st) σ) : zW E OK k n pc L (zr ad t x :: st) σ := kk _ rfl (h _ rfl)
theorem ct_pat0 {g : zG} {ad : zA} {σ : zS} {e : Int} (h0 : 0 ≤ e) (hs : σ 30 e = 0) : ct g ad σ (6, e.toNat) = .inr (6, [.int (zi (σ 31 e))]) := by
  show ctP ad σ e.toNat = _
  simp only [ctP, Int.toNat_of_nonneg h0, if_pos hs]
theorem ct_pat1 {g : zG} {ad : zA} {σ : zS} {e : Int} (h0 : 0 ≤ e) (hs : σ 30 e = 1) : ct g ad σ (6, e.toNat) = .inr (7, [zr ad 6 (σ 31 e)]) := by
  show ctP ad σ e.toNat = _
  simp only [ctP, Int.toNat_of_nonneg h0, if_neg (show ¬ σ 30 e = 0 by omega), if_pos hs]
theorem ct_pat2 {g : zG} {ad : zA} {σ : zS} {e : Int} (h0 : 0 ≤ e) (hs : σ 30 e = 2) : ct g ad σ (6, e.toNat) = .inr (8, [zr ad 6 (σ 31 e), zr ad 6 (σ 32 e)]) := by
  show ctP ad σ e.toNat = _
  simp only [ctP, Int.toNat_of_nonneg h0, if_neg (show ¬ σ 30 e = 0 by omega), if_neg (show ¬ σ 30 e = 1 by omega)]
theorem flt_eq {L M L0 : List (Nat × Value)} {j : Nat} (hc : L.filter (fun q => q.1 + 1 == j) = M) (hM : ∀ q ∈ M, q.2.category = 1) (hf : L.filter (fun q => !(q.1 == j)) = L0) : L.filter (fun q => !(q.1 == j) && !(q.1 + 1 == j && q.2.category == 2)) = L0 := by
  rw [← hf]
  apply List.filter_congr
  intro q hq
  by_cases h : q.1 + 1 = j
  · have : q ∈ M := by rw [← hc]; exact List.mem_filter.mpr ⟨hq, by simpa using h⟩
    simp [hM q this]
  · simp [h]
theorem cat_i (x : Int32) : (Value.int x).category = 1 := rfl
theorem cat_l (x : Int64) : (Value.long x).category = 2 := rfl
theorem cat_r (x : Nat) : (Value.ref x).category = 1 := rfl
theorem kv_cat (g : zG) (x : Int) : (kv g x).category = 1 := by
  unfold kv
  split <;> rfl
