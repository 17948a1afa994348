section ZD
variable {E : zE} {pc k n : Nat} {L : List (Nat × Value)} {st : List Value} {σ : zS} {cc : ByteArray} {own : String} {D : va_G} {g : zG} {rm : Room} {nl : Nat} {A : Nat → Prop} {ad : zA}
theorem x_callVi {y : MethodName} {b : ByteArray} {ml index : Nat} {ret : Option FieldType} {rm2 : Room} {As st0 : List Value} {na : Nat} {ci N : Nat} {fs : List Value} {T : u_T} {Q : Int → zS → Prop} {P : Prop} (C : zX E cc own D g rm nl) (S : zSt g A (zst E) (zst E).heap) (hY : zY y b ml ret na) (t : zT) (ht0 : t ∈ zids σ) (hct : ct g ad σ t = .inr (ci, fs)) (hc : classes[ci]? = some (y.cls, T, N)) (hlink : Cond.methodLink own index y ∈ lw_g) (d : decode cc pc = .ok (.invokevirtual index, 3)) (hR : rm2.cells = 0 ∧ rm2.slots = 0 ∧ rm2.frames + 1 ≤ rm.frames ∧ 8 + (ml + 11) + rm2.locals ≤ rm.locals) (hAs : As.length = na) (hs : st0 = As.reverse ++ .ref (ad t) :: st) (hst : (st.map fun v => v.category).sum ≤ 8)
    (h : P) (hM : P → zGi (zln E) y b ml ret rm2 D g ad σ (.ref (ad t) :: As) Q) (kk : ∀ r τ, Q r τ → zW E (zOK D A (zst E) g ad) k n (pc + 3) L (.int (zi r) :: st) τ) (hkn : k ≤ rm.cells ∧ n ≤ rm.slots := by exact ⟨Nat.zero_le _, Nat.zero_le _⟩) : zW E (zOK D A (zst E) g ad) k n pc L st0 σ := by
  obtain ⟨p, l, e, R0, s, m, args, below, meth, c, nL, Z⟩ := E
  obtain ⟨C, hK, hRm, hN⟩ := C
  subst hs
  subst hRm
  intro H locs ls ho hl
  refine va_calli (z_runY (t := t) C hK S (hM h) hY hAs hlink hR ht0 hct hc ho hl.1 hst d hkn) ho.2.2 (fun q _ h => zAd_sub ho.2.1 h) (fun q h => zAd_sub ho.2.1 h) (fun r u t H1 locs1 ht hvm hw hB hz1 hk1 hS1 => ?_)
  obtain ⟨z, rfl, hq⟩ := hw
  exact kk z u hq H1 locs1 ls (zB_ok (fun q h => zAd_sub ho.2.1 h) ht hB hS1) hl
theorem x_callSi {y : MethodName} {b : ByteArray} {ml index : Nat} {ret : Option FieldType} {rm2 : Room} {As st0 : List Value} {na : Nat} {Q : Int → zS → Prop} {P : Prop} (C : zX E cc own D g rm nl) (S : zSt g A (zst E) (zst E).heap) (hY : zYs y b ml ret na) (hlink : Cond.methodLink own index y ∈ lw_g) (d : decode cc pc = .ok (.invokestatic index, 3)) (hR : rm2.cells = 0 ∧ rm2.slots = 0 ∧ rm2.frames + 1 ≤ rm.frames ∧ 8 + (ml + 11) + rm2.locals ≤ rm.locals) (hAs : As.length = na) (hs : st0 = As.reverse ++ st) (hst : (st.map fun v => v.category).sum ≤ 8)
    (h : P) (hM : P → zGi (zln E) y b ml ret rm2 D g ad σ As Q) (kk : ∀ r τ, Q r τ → zW E (zOK D A (zst E) g ad) k n (pc + 3) L (.int (zi r) :: st) τ) (hkn : k ≤ rm.cells ∧ n ≤ rm.slots := by exact ⟨Nat.zero_le _, Nat.zero_le _⟩) : zW E (zOK D A (zst E) g ad) k n pc L st0 σ := by
  obtain ⟨p, l, e, R0, s, m, args, below, meth, c, nL, Z⟩ := E
  obtain ⟨C, hK, hRm, hN⟩ := C
  subst hs
  subst hRm
  intro H locs ls ho hl
  refine va_calli (z_runYs C hK S (hM h) hY hAs hlink hR ho hl.1 hst d hkn) ho.2.2 (fun q _ h => zAd_sub ho.2.1 h) (fun q h => zAd_sub ho.2.1 h) (fun r u t H1 locs1 ht hvm hw hB hz1 hk1 hS1 => ?_)
  obtain ⟨z, rfl, hq⟩ := hw
  exact kk z u hq H1 locs1 ls (zB_ok (fun q h => zAd_sub ho.2.1 h) ht hB hS1) hl
theorem x_callVl {y : MethodName} {b : ByteArray} {ml index : Nat} {ret : Option FieldType} {rm2 : Room} {As st0 : List Value} {na : Nat} {ci N : Nat} {fs : List Value} {T : u_T} {Q : Int → zS → Prop} {P : Prop} (C : zX E cc own D g rm nl) (S : zSt g A (zst E) (zst E).heap) (hY : zY y b ml ret na) (t : zT) (ht0 : t ∈ zids σ) (hct : ct g ad σ t = .inr (ci, fs)) (hc : classes[ci]? = some (y.cls, T, N)) (hlink : Cond.methodLink own index y ∈ lw_g) (d : decode cc pc = .ok (.invokevirtual index, 3)) (hR : rm2.cells = 0 ∧ rm2.slots = 0 ∧ rm2.frames + 1 ≤ rm.frames ∧ 8 + (ml + 11) + rm2.locals ≤ rm.locals) (hAs : As.length = na) (hs : st0 = As.reverse ++ .ref (ad t) :: st) (hst : (st.map fun v => v.category).sum ≤ 8)
    (h : P) (hM : P → zGl (zln E) y b ml ret rm2 D g ad σ (.ref (ad t) :: As) Q) (kk : ∀ r τ, Q r τ → zW E (zOK D A (zst E) g ad) k n (pc + 3) L (.long (zj r) :: st) τ) (hkn : k ≤ rm.cells ∧ n ≤ rm.slots := by exact ⟨Nat.zero_le _, Nat.zero_le _⟩) : zW E (zOK D A (zst E) g ad) k n pc L st0 σ := by
  obtain ⟨p, l, e, R0, s, m, args, below, meth, c, nL, Z⟩ := E
  obtain ⟨C, hK, hRm, hN⟩ := C
  subst hs
  subst hRm
  intro H locs ls ho hl
  refine va_calll (z_runY (t := t) C hK S (hM h) hY hAs hlink hR ht0 hct hc ho hl.1 hst d hkn) ho.2.2 (fun q _ h => zAd_sub ho.2.1 h) (fun q h => zAd_sub ho.2.1 h) (fun r u t H1 locs1 ht hvm hw hB hz1 hk1 hS1 => ?_)
  obtain ⟨z, rfl, hq⟩ := hw
  exact kk z u hq H1 locs1 ls (zB_ok (fun q h => zAd_sub ho.2.1 h) ht hB hS1) hl
theorem x_callSl {y : MethodName} {b : ByteArray} {ml index : Nat} {ret : Option FieldType} {rm2 : Room} {As st0 : List Value} {na : Nat} {Q : Int → zS → Prop} {P : Prop} (C : zX E cc own D g rm nl) (S : zSt g A (zst E) (zst E).heap) (hY : zYs y b ml ret na) (hlink : Cond.methodLink own index y ∈ lw_g) (d : decode cc pc = .ok (.invokestatic index, 3)) (hR : rm2.cells = 0 ∧ rm2.slots = 0 ∧ rm2.frames + 1 ≤ rm.frames ∧ 8 + (ml + 11) + rm2.locals ≤ rm.locals) (hAs : As.length = na) (hs : st0 = As.reverse ++ st) (hst : (st.map fun v => v.category).sum ≤ 8)
    (h : P) (hM : P → zGl (zln E) y b ml ret rm2 D g ad σ As Q) (kk : ∀ r τ, Q r τ → zW E (zOK D A (zst E) g ad) k n (pc + 3) L (.long (zj r) :: st) τ) (hkn : k ≤ rm.cells ∧ n ≤ rm.slots := by exact ⟨Nat.zero_le _, Nat.zero_le _⟩) : zW E (zOK D A (zst E) g ad) k n pc L st0 σ := by
  obtain ⟨p, l, e, R0, s, m, args, below, meth, c, nL, Z⟩ := E
  obtain ⟨C, hK, hRm, hN⟩ := C
  subst hs
  subst hRm
  intro H locs ls ho hl
  refine va_calll (z_runYs C hK S (hM h) hY hAs hlink hR ho hl.1 hst d hkn) ho.2.2 (fun q _ h => zAd_sub ho.2.1 h) (fun q h => zAd_sub ho.2.1 h) (fun r u t H1 locs1 ht hvm hw hB hz1 hk1 hS1 => ?_)
  obtain ⟨z, rfl, hq⟩ := hw
  exact kk z u hq H1 locs1 ls (zB_ok (fun q h => zAd_sub ho.2.1 h) ht hB hS1) hl
theorem x_callVv {y : MethodName} {b : ByteArray} {ml index : Nat} {ret : Option FieldType} {rm2 : Room} {As st0 : List Value} {na : Nat} {ci N : Nat} {fs : List Value} {T : u_T} {Q : zS → Prop} {P : Prop} (C : zX E cc own D g rm nl) (S : zSt g A (zst E) (zst E).heap) (hY : zY y b ml ret na) (t : zT) (ht0 : t ∈ zids σ) (hct : ct g ad σ t = .inr (ci, fs)) (hc : classes[ci]? = some (y.cls, T, N)) (hlink : Cond.methodLink own index y ∈ lw_g) (d : decode cc pc = .ok (.invokevirtual index, 3)) (hR : rm2.cells = 0 ∧ rm2.slots = 0 ∧ rm2.frames + 1 ≤ rm.frames ∧ 8 + (ml + 11) + rm2.locals ≤ rm.locals) (hAs : As.length = na) (hs : st0 = As.reverse ++ .ref (ad t) :: st) (hst : (st.map fun v => v.category).sum ≤ 8)
    (h : P) (hM : P → zGv (zln E) y b ml ret rm2 D g ad σ (.ref (ad t) :: As) Q) (kk : ∀ τ, Q τ → zW E (zOK D A (zst E) g ad) k n (pc + 3) L st τ) (hkn : k ≤ rm.cells ∧ n ≤ rm.slots := by exact ⟨Nat.zero_le _, Nat.zero_le _⟩) : zW E (zOK D A (zst E) g ad) k n pc L st0 σ := by
  obtain ⟨p, l, e, R0, s, m, args, below, meth, c, nL, Z⟩ := E
  obtain ⟨C, hK, hRm, hN⟩ := C
  subst hs
  subst hRm
  intro H locs ls ho hl
  refine va_callv (z_runY (t := t) C hK S (hM h) hY hAs hlink hR ht0 hct hc ho hl.1 hst d hkn) ho.2.2 (fun q _ h => zAd_sub ho.2.1 h) (fun q h => zAd_sub ho.2.1 h) (fun u t H1 locs1 ht hvm hw hB hz1 hk1 hS1 => ?_)
  exact kk u hw H1 locs1 ls (zB_ok (fun q h => zAd_sub ho.2.1 h) ht hB hS1) hl
theorem x_callSv {y : MethodName} {b : ByteArray} {ml index : Nat} {ret : Option FieldType} {rm2 : Room} {As st0 : List Value} {na : Nat} {Q : zS → Prop} {P : Prop} (C : zX E cc own D g rm nl) (S : zSt g A (zst E) (zst E).heap) (hY : zYs y b ml ret na) (hlink : Cond.methodLink own index y ∈ lw_g) (d : decode cc pc = .ok (.invokestatic index, 3)) (hR : rm2.cells = 0 ∧ rm2.slots = 0 ∧ rm2.frames + 1 ≤ rm.frames ∧ 8 + (ml + 11) + rm2.locals ≤ rm.locals) (hAs : As.length = na) (hs : st0 = As.reverse ++ st) (hst : (st.map fun v => v.category).sum ≤ 8)
    (h : P) (hM : P → zGv (zln E) y b ml ret rm2 D g ad σ As Q) (kk : ∀ τ, Q τ → zW E (zOK D A (zst E) g ad) k n (pc + 3) L st τ) (hkn : k ≤ rm.cells ∧ n ≤ rm.slots := by exact ⟨Nat.zero_le _, Nat.zero_le _⟩) : zW E (zOK D A (zst E) g ad) k n pc L st0 σ := by
  obtain ⟨p, l, e, R0, s, m, args, below, meth, c, nL, Z⟩ := E
  obtain ⟨C, hK, hRm, hN⟩ := C
  subst hs
  subst hRm
  intro H locs ls ho hl
  refine va_callv (z_runYs C hK S (hM h) hY hAs hlink hR ho hl.1 hst d hkn) ho.2.2 (fun q _ h => zAd_sub ho.2.1 h) (fun q h => zAd_sub ho.2.1 h) (fun u t H1 locs1 ht hvm hw hB hz1 hk1 hS1 => ?_)
  exact kk u hw H1 locs1 ls (zB_ok (fun q h => zAd_sub ho.2.1 h) ht hB hS1) hl
theorem x_callVr {y : MethodName} {b : ByteArray} {ml index : Nat} {ret : Option FieldType} {rm2 : Room} {As st0 : List Value} {na : Nat} {tr : Nat} {ci N : Nat} {fs : List Value} {T : u_T} {Q : Int → zS → Prop} {P : Prop} (C : zX E cc own D g rm nl) (S : zSt g A (zst E) (zst E).heap) (hY : zY y b ml ret na) (t : zT) (ht0 : t ∈ zids σ) (hct : ct g ad σ t = .inr (ci, fs)) (hc : classes[ci]? = some (y.cls, T, N)) (hlink : Cond.methodLink own index y ∈ lw_g) (d : decode cc pc = .ok (.invokevirtual index, 3)) (hR : rm2.cells = 0 ∧ rm2.slots = 0 ∧ rm2.frames + 1 ≤ rm.frames ∧ 8 + (ml + 11) + rm2.locals ≤ rm.locals) (hAs : As.length = na) (hs : st0 = As.reverse ++ .ref (ad t) :: st) (hst : (st.map fun v => v.category).sum ≤ 8)
    (h : P) (hM : P → zGr tr (zln E) y b ml ret rm2 D g ad σ (.ref (ad t) :: As) Q) (kk : ∀ r τ, Q r τ → zW E (zOK D A (zst E) g ad) k n (pc + 3) L (zr ad tr r :: st) τ) (hkn : k ≤ rm.cells ∧ n ≤ rm.slots := by exact ⟨Nat.zero_le _, Nat.zero_le _⟩) : zW E (zOK D A (zst E) g ad) k n pc L st0 σ := by
  obtain ⟨p, l, e, R0, s, m, args, below, meth, c, nL, Z⟩ := E
  obtain ⟨C, hK, hRm, hN⟩ := C
  subst hs
  subst hRm
  intro H locs ls ho hl
  refine va_callq (z_runY (t := t) C hK S (hM h) hY hAs hlink hR ht0 hct hc ho hl.1 hst d hkn) ho.2.2 (fun q _ h => zAd_sub ho.2.1 h) (fun q h => zAd_sub ho.2.1 h) (fun r u t H1 locs1 ht hvm hw hB hz1 hk1 hS1 => ?_)
  obtain ⟨z, rfl, hq⟩ := hw
  exact kk z u hq H1 locs1 ls (zB_ok (fun q h => zAd_sub ho.2.1 h) ht hB hS1) hl
theorem x_callSr {y : MethodName} {b : ByteArray} {ml index : Nat} {ret : Option FieldType} {rm2 : Room} {As st0 : List Value} {na : Nat} {tr : Nat} {Q : Int → zS → Prop} {P : Prop} (C : zX E cc own D g rm nl) (S : zSt g A (zst E) (zst E).heap) (hY : zYs y b ml ret na) (hlink : Cond.methodLink own index y ∈ lw_g) (d : decode cc pc = .ok (.invokestatic index, 3)) (hR : rm2.cells = 0 ∧ rm2.slots = 0 ∧ rm2.frames + 1 ≤ rm.frames ∧ 8 + (ml + 11) + rm2.locals ≤ rm.locals) (hAs : As.length = na) (hs : st0 = As.reverse ++ st) (hst : (st.map fun v => v.category).sum ≤ 8)
    (h : P) (hM : P → zGr tr (zln E) y b ml ret rm2 D g ad σ As Q) (kk : ∀ r τ, Q r τ → zW E (zOK D A (zst E) g ad) k n (pc + 3) L (zr ad tr r :: st) τ) (hkn : k ≤ rm.cells ∧ n ≤ rm.slots := by exact ⟨Nat.zero_le _, Nat.zero_le _⟩) : zW E (zOK D A (zst E) g ad) k n pc L st0 σ := by
  obtain ⟨p, l, e, R0, s, m, args, below, meth, c, nL, Z⟩ := E
  obtain ⟨C, hK, hRm, hN⟩ := C
  subst hs
  subst hRm
  intro H locs ls ho hl
  refine va_callq (z_runYs C hK S (hM h) hY hAs hlink hR ho hl.1 hst d hkn) ho.2.2 (fun q _ h => zAd_sub ho.2.1 h) (fun q h => zAd_sub ho.2.1 h) (fun r u t H1 locs1 ht hvm hw hB hz1 hk1 hS1 => ?_)
  obtain ⟨z, rfl, hq⟩ := hw
  exact kk z u hq H1 locs1 ls (zB_ok (fun q h => zAd_sub ho.2.1 h) ht hB hS1) hl
end ZD
