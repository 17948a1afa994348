/-! rows of the law's own body -/
theorem zand31 (x : Int) : 0 ≤ zand x 31 ∧ zand x 31 < 32 := by
  have h : (zand x 31) = ((zi x).toBitVec &&& (31 : BitVec 32)).toInt := rfl
  have h2 : ((zi x).toBitVec &&& (31 : BitVec 32)).toNat < 32 := by
    rw [BitVec.toNat_and]
    exact Nat.lt_of_le_of_lt Nat.and_le_right (by decide)
  rw [h, BitVec.toInt_eq_toNat_of_lt (by omega)]
  omega
section ZLW
variable {E : zE} {k n pc : Nat} {L L' : List (Nat × Value)} {st : List Value} {σ : zS} {cc : ByteArray} {own : String} {D : va_G} {g : zG} {rm : Room} {nl : Nat} {A : Nat → Prop} {ad : zA} {OK : zS → Heap → List Loc → Prop}
theorem l_calli {y : MethodName} {b : ByteArray} {ml index : Nat} {ret : Option FieldType} {rm2 : Room} {As st0 : List Value} {na : Nat} {Q : Int → zS → Prop} {P : Prop} (C : zX E cc own D g rm nl) (hY : zY y b ml ret na) (hcls : y.cls = R_MM) (hlink : Cond.methodLink own index y ∈ lw_g) (d : decode cc pc = .ok (.invokevirtual index, 3)) (hR : rm2.cells = 0 ∧ rm2.slots = 0 ∧ rm2.frames + 1 ≤ rm.frames ∧ 8 + (ml + 11) + rm2.locals ≤ rm.locals) (hkn : k ≤ rm.cells ∧ n ≤ rm.slots) (hAs : As.length = na) (hs : st0 = As.reverse ++ .ref (ad (0, 3)) :: st) (hst : (st.map fun v => v.category).sum ≤ 8)
    (h : P) (hM : P → zMi (zln E) y b ml ret rm2 D g ad σ (.ref (ad (0, 3)) :: As) Q) (kk : ∀ r τ, Q r τ → zW E (zOK D A (zst E) g ad) k n (pc + 3) L (.int (zi r) :: st) τ) : zW E (zOK D A (zst E) g ad) k n pc L st0 σ := by
  obtain ⟨p, l, e, R0, s, m, args, below, meth, c, nL, Z⟩ := E
  obtain ⟨C, hK, hRm, hN⟩ := C
  subst hs
  subst hRm
  intro H locs ls ho hl
  obtain ⟨hP, hD, hS⟩ := ho
  refine va_calli (z_runV (t := (0, 3)) (ci := 9) (T := F_MM) (N := 51) C hK (hM h) hY hAs hlink hR (zids_fix zfix_3) rfl (by rw [hcls]; rfl) hP hD hl.1 hst d hkn) hS (fun q _ h => zAd_sub hD h) (fun q h => zAd_sub hD h) (fun r u t H1 locs1 ht hvm hw hB hz1 hk1 hS1 => ?_)
  obtain ⟨z, rfl, hq⟩ := hw
  exact kk z u hq H1 locs1 ls ⟨by rw [← ht]; exact hB.1, ⟨hB.2.1, fun t' ht' => zAd_sub hD (hB.2.2.1 t' ht'), hB.2.2.2⟩, hS1⟩ hl
theorem l_calll {y : MethodName} {b : ByteArray} {ml index : Nat} {ret : Option FieldType} {rm2 : Room} {As st0 : List Value} {na : Nat} {Q : Int → zS → Prop} {P : Prop} (C : zX E cc own D g rm nl) (hY : zY y b ml ret na) (hcls : y.cls = R_MM) (hlink : Cond.methodLink own index y ∈ lw_g) (d : decode cc pc = .ok (.invokevirtual index, 3)) (hR : rm2.cells = 0 ∧ rm2.slots = 0 ∧ rm2.frames + 1 ≤ rm.frames ∧ 8 + (ml + 11) + rm2.locals ≤ rm.locals) (hkn : k ≤ rm.cells ∧ n ≤ rm.slots) (hAs : As.length = na) (hs : st0 = As.reverse ++ .ref (ad (0, 3)) :: st) (hst : (st.map fun v => v.category).sum ≤ 8)
    (h : P) (hM : P → zMl (zln E) y b ml ret rm2 D g ad σ (.ref (ad (0, 3)) :: As) Q) (kk : ∀ r τ, Q r τ → zW E (zOK D A (zst E) g ad) k n (pc + 3) L (.long (zj r) :: st) τ) : zW E (zOK D A (zst E) g ad) k n pc L st0 σ := by
  obtain ⟨p, l, e, R0, s, m, args, below, meth, c, nL, Z⟩ := E
  obtain ⟨C, hK, hRm, hN⟩ := C
  subst hs
  subst hRm
  intro H locs ls ho hl
  obtain ⟨hP, hD, hS⟩ := ho
  refine va_calll (z_runV (t := (0, 3)) (ci := 9) (T := F_MM) (N := 51) C hK (hM h) hY hAs hlink hR (zids_fix zfix_3) rfl (by rw [hcls]; rfl) hP hD hl.1 hst d hkn) hS (fun q _ h => zAd_sub hD h) (fun q h => zAd_sub hD h) (fun r u t H1 locs1 ht hvm hw hB hz1 hk1 hS1 => ?_)
  obtain ⟨z, rfl, hq⟩ := hw
  exact kk z u hq H1 locs1 ls ⟨by rw [← ht]; exact hB.1, ⟨hB.2.1, fun t' ht' => zAd_sub hD (hB.2.2.1 t' ht'), hB.2.2.2⟩, hS1⟩ hl
theorem l_callv {y : MethodName} {b : ByteArray} {ml index : Nat} {ret : Option FieldType} {rm2 : Room} {As st0 : List Value} {na : Nat} {Q : zS → Prop} {P : Prop} (C : zX E cc own D g rm nl) (hY : zY y b ml ret na) (hcls : y.cls = R_MM) (hlink : Cond.methodLink own index y ∈ lw_g) (d : decode cc pc = .ok (.invokevirtual index, 3)) (hR : rm2.cells = 0 ∧ rm2.slots = 0 ∧ rm2.frames + 1 ≤ rm.frames ∧ 8 + (ml + 11) + rm2.locals ≤ rm.locals) (hkn : k ≤ rm.cells ∧ n ≤ rm.slots) (hAs : As.length = na) (hs : st0 = As.reverse ++ .ref (ad (0, 3)) :: st) (hst : (st.map fun v => v.category).sum ≤ 8)
    (h : P) (hM : P → zMv (zln E) y b ml ret rm2 D g ad σ (.ref (ad (0, 3)) :: As) Q) (kk : ∀ τ, Q τ → zW E (zOK D A (zst E) g ad) k n (pc + 3) L st τ) : zW E (zOK D A (zst E) g ad) k n pc L st0 σ := by
  obtain ⟨p, l, e, R0, s, m, args, below, meth, c, nL, Z⟩ := E
  obtain ⟨C, hK, hRm, hN⟩ := C
  subst hs
  subst hRm
  intro H locs ls ho hl
  obtain ⟨hP, hD, hS⟩ := ho
  refine va_callv (z_runV (t := (0, 3)) (ci := 9) (T := F_MM) (N := 51) C hK (hM h) hY hAs hlink hR (zids_fix zfix_3) rfl (by rw [hcls]; rfl) hP hD hl.1 hst d hkn) hS (fun q _ h => zAd_sub hD h) (fun q h => zAd_sub hD h) (fun u t H1 locs1 ht hvm hq hB hz1 hk1 hS1 => ?_)
  exact kk u hq H1 locs1 ls ⟨by rw [← ht]; exact hB.1, ⟨hB.2.1, fun t' ht' => zAd_sub hD (hB.2.2.1 t' ht'), hB.2.2.2⟩, hS1⟩ hl
/-- two equal answers -/
theorem l_same {x off : Int} {tgt : Nat} (C : zX E cc own D g rm nl) (d : decode cc pc = .ok (.if_icmp .eq off, 3)) (ht : (pc : Int) + off = (tgt : Int)) (kk : zW E OK k n tgt L st σ) : zW E OK k n pc L (.int (zi x) :: .int (zi x) :: st) σ := by
  obtain ⟨p, l, e, R, s, m, args, below, meth, c, nL, Z⟩ := E
  obtain ⟨⟨hx, hb, hml, hown, hts⟩, hK, hR, hN⟩ := C
  intro H locs ls ho hl
  exact lv_icmp_eq hx hb d ht (fun _ => kk H locs ls ho hl) (fun q => absurd rfl q)
theorem l_lsame {x off : Int} {tgt : Nat} (C : zX E cc own D g rm nl) (d : decode cc pc = .ok (.lcmp, 1)) (d2 : decode cc (pc + 1) = .ok (.ifCond .eq off, 3)) (ht : ((pc + 1 : Nat) : Int) + off = (tgt : Int)) (kk : zW E OK k n tgt L st σ) : zW E OK k n pc L (.long (zj x) :: .long (zj x) :: st) σ := by
  obtain ⟨p, l, e, R, s, m, args, below, meth, c, nL, Z⟩ := E
  obtain ⟨⟨hx, hb, hml, hown, hts⟩, hK, hR, hN⟩ := C
  intro H locs ls ho hl
  refine W.lcmp hx hb d ?_
  have e0 : lg_cmp (zj x) (zj x) = 0 := by simp [lg_cmp]
  rw [e0]
  exact lv_if_eq hx hb d2 ht (fun _ => kk H locs ls ho hl) (fun q => absurd rfl q)
/-- the script -/
theorem l_sld {b Ln : Nat} {xs : Nat → Int32} {i : Int} (C : zX E cc own D g rm nl) (hX : va_X b Ln xs (zst E) (zst E).heap) (hbl : b < (zst E).heap.size) (h0 : 0 ≤ i) (h1 : i < Ln) (hLn : Ln ≤ 320) (d : decode cc pc = .ok (.iaload, 1))
    (kk : zW E (zOK D (fun q => (zst E).heap.size ≤ q) (zst E) g ad) k n (pc + 1) L (.int (zi (xs i.toNat).toInt) :: st) σ) : zW E (zOK D (fun q => (zst E).heap.size ≤ q) (zst E) g ad) k n pc L (.int (zi i) :: .ref b :: st) σ := by
  obtain ⟨p, l, e, R, s, m, args, below, meth, c, nL, Z⟩ := E
  obtain ⟨⟨hx, hb, hml, hown, hts⟩, hK, hR, hN⟩ := C
  intro H locs ls ho hl
  refine va_sld hx hb hX hbl (Nat.not_le.mpr hbl) ho.2.2 (zi_in h0 h1 (by omega)) d ?_
  rw [zi_cl h0 (by omega)]
  have kk := kk H locs ls ho hl
  rw [zi_of] at kk
  exact kk
theorem l_slen {b Ln : Nat} {xs : Nat → Int32} (C : zX E cc own D g rm nl) (hX : va_X b Ln xs (zst E) (zst E).heap) (hbl : b < (zst E).heap.size) (hLn : Ln ≤ 320) (d : decode cc pc = .ok (.arraylength, 1))
    (kk : zW E (zOK D (fun q => (zst E).heap.size ≤ q) (zst E) g ad) k n (pc + 1) L (.int (zi Ln) :: st) σ) : zW E (zOK D (fun q => (zst E).heap.size ≤ q) (zst E) g ad) k n pc L (.ref b :: st) σ := by
  obtain ⟨p, l, e, R, s, m, args, below, meth, c, nL, Z⟩ := E
  obtain ⟨⟨hx, hb, hml, hown, hts⟩, hK, hR, hN⟩ := C
  intro H locs ls ho hl
  refine va_slen hx hb hX hbl (Nat.not_le.mpr hbl) ho.2.2 d ?_
  exact kk H locs ls ho hl
theorem l_tabIn {op off dflt : Int} {offs : Array Int} {len : Nat} {tgt : Nat} (C : zX E cc own D g rm nl) (d : decode cc pc = .ok (.tableswitch dflt 0 18 offs, len)) (h0 : 0 ≤ op) (h1 : op ≤ 18) (ho : offs[op.toNat]? = some off) (ht : (pc : Int) + off = (tgt : Int)) (kk : zW E OK k n tgt L st σ) : zW E OK k n pc L (.int (zi op) :: st) σ := by
  obtain ⟨p, l, e, R, s, m, args, below, meth, c, nL, Z⟩ := E
  obtain ⟨⟨hx, hb, hml, hown, hts⟩, hK, hR, hN⟩ := C
  intro H locs ls hok hl
  have e0 : (zi op).toInt = op := zi_toInt (by omega)
  exact lv_tableIn hx hb d (by rw [e0]; omega) (by rw [e0]; omega) (by rw [e0, Int.sub_zero]; exact ho) ht (kk H locs ls hok hl)
theorem l_tabOut {op dflt : Int} {offs : Array Int} {len : Nat} {tgt : Nat} (C : zX E cc own D g rm nl) (d : decode cc pc = .ok (.tableswitch dflt 0 18 offs, len)) (h0 : 18 < op) (h1 : op < 32) (ht : (pc : Int) + dflt = (tgt : Int)) (kk : zW E OK k n tgt L st σ) : zW E OK k n pc L (.int (zi op) :: st) σ := by
  obtain ⟨p, l, e, R, s, m, args, below, meth, c, nL, Z⟩ := E
  obtain ⟨⟨hx, hb, hml, hown, hts⟩, hK, hR, hN⟩ := C
  intro H locs ls hok hl
  have e0 : (zi op).toInt = op := zi_toInt (by omega)
  exact lv_tableOut hx hb d (by rw [e0]; omega) ht (kk H locs ls hok hl)
end ZLW
/-- the law's locals -/
def lcl (b : Nat) (i : Int) (ad : zA) : List (Nat × Value) := [(0, .ref b), (1, .ref (ad (0, 0))), (2, .ref (ad (0, 3))), (3, .int (zi i))]
/-- what the law's walk stands on -/
def lwX (E : zE) (D : va_G) (g : zG) (b Ln : Nat) (xs : Nat → Int32) : Prop := zX E code R_law D g room_1 4 ∧ zSt g (fun q => (zst E).heap.size ≤ q) (zst E) (zst E).heap ∧ va_X b Ln xs (zst E) (zst E).heap ∧ b < (zst E).heap.size ∧ Ln ≤ 320
/-- a number of the script is read -/
theorem l_arg {E : zE} {D : va_G} {g : zG} {b Ln : Nat} {xs : Nat → Int32} {ad : zA} {σ : zS} {k n pc : Nat} {st : List Value} {i : Int} (X : lwX E D g b Ln xs) (h0 : 0 ≤ i) (h1 : i + 5 ≤ Ln) (j : Int) (hj0 : 0 ≤ j) (hj : j < 5) (d0 : decode code pc = .ok (.aload_n 0, 1)) (d1 : decode code (pc + 1) = .ok (.iload_n 3, 1)) (d2 : decode code (pc + 2) = .ok (.iconst j, 1)) (d3 : decode code (pc + 3) = .ok (.iadd, 1)) (d4 : decode code (pc + 4) = .ok (.iaload, 1))
    (kk : zW E (zOK D (fun q => (zst E).heap.size ≤ q) (zst E) g ad) k n (pc + 5) (lcl b i ad) (.int (zi (xs (i + j).toNat).toInt) :: st) σ) : zW E (zOK D (fun q => (zst E).heap.size ≤ q) (zst E) g ad) k n pc (lcl b i ad) st σ := by
  obtain ⟨C, S, hX, hbl, hLn⟩ := X
  refine z_aload_n C d0 0 rfl ?_
  refine z_iload_n C d1 3 rfl ?_
  refine z_iconst C d2 ?_
  refine z_iadd C d3 ?_
  exact l_sld C hX hbl (by omega) (by omega) hLn d4 kk
