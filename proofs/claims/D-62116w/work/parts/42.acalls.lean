section ZF
variable {E : zE} {pc k n : Nat} {st : List Value} {σ : zS} {cc : ByteArray} {own : String} {D : va_G} {g : zG} {rm : Room} {nl mc ms : Nat} {A : Nat → Prop} {ad : zA}
theorem xa_callVi {y : MethodName} {b : ByteArray} {ml index : Nat} {ret : Option FieldType} {rm2 : Room} {As st0 : List Value} {na : Nat} {ci N : Nat} {fs : List Value} {T : u_T} {Q : Int → zS → Prop} {P : Prop} (Lf : zA → List (Nat × Value)) (stf : zA → List Value) (C : zX E cc own D g rm nl) (S : zSt g A (zst E) (zst E).heap) (hA : ∀ q, (zst E).heap.size ≤ q → A q) (hY : zY y b ml ret na) (t : zT) (ht0 : t ∈ zids σ) (hct : ct g ad σ t = .inr (ci, fs)) (hc : classes[ci]? = some (y.cls, T, N)) (hlink : Cond.methodLink own index y ∈ lw_g) (d : decode cc pc = .ok (.invokevirtual index, 3)) (hR : rm2.cells = mc ∧ rm2.slots = ms ∧ rm2.frames + 1 ≤ rm.frames ∧ 8 + (ml + 11) + rm2.locals ≤ rm.locals) (hkn : k + mc ≤ rm.cells ∧ n + ms ≤ rm.slots) (hAs : As.length = na) (hs : st0 = As.reverse ++ .ref (ad t) :: stf ad) (hst : ((stf ad).map fun v => v.category).sum ≤ 8) (hL : ∀ ad', zAg ad σ ad' → Lf ad' = Lf ad ∧ stf ad' = stf ad)
    (h : P) (hM : P → ∀ sz, zHi (zln E) y b ml ret rm2 D g ad σ (.ref (ad t) :: As) Q sz mc ms) (kk : ∀ (r : Int) (τ : zS) (ad' : zA), zEx ad σ ad' τ → Q r τ → zW E (zOK D A (zst E) g ad') (k + mc) (n + ms) (pc + 3) (Lf ad') (.int (zi r) :: stf ad') τ) : zW E (zOK D A (zst E) g ad) k n pc (Lf ad) st0 σ := by
  obtain ⟨p, l, e, R0, s, m, args, below, meth, c, nL, Z⟩ := E
  obtain ⟨C, hK, hRm, hN⟩ := C
  subst hs
  subst hRm
  intro H locs ls ho hl
  refine va_calli (z_runA (t := t) C hK S hA (hM h H.size) hY hAs hlink hR ht0 hct hc ho hl.1 hst d hkn) ho.2.2 (fun q _ h => zAx_sub hA ho h) (fun q h => zAx_sub hA ho h) (fun r u t H1 locs1 ht hvm hw hB hz1 hk1 hS1 => ?_)
  obtain ⟨z, rfl, hq, hX⟩ := hw
  have hl2 := hL u.2 hX.2
  have kk := kk z u.1 u.2 hX hq H1 locs1 ls (zBa_ok (fun q h => zAx_sub hA ho h) ht hB hS1) (by rw [hl2.1]; exact hl)
  rw [hl2.2] at kk
  exact kk
theorem xa_callSi {y : MethodName} {b : ByteArray} {ml index : Nat} {ret : Option FieldType} {rm2 : Room} {As st0 : List Value} {na : Nat} {Q : Int → zS → Prop} {P : Prop} (Lf : zA → List (Nat × Value)) (stf : zA → List Value) (C : zX E cc own D g rm nl) (S : zSt g A (zst E) (zst E).heap) (hA : ∀ q, (zst E).heap.size ≤ q → A q) (hY : zYs y b ml ret na) (hlink : Cond.methodLink own index y ∈ lw_g) (d : decode cc pc = .ok (.invokestatic index, 3)) (hR : rm2.cells = mc ∧ rm2.slots = ms ∧ rm2.frames + 1 ≤ rm.frames ∧ 8 + (ml + 11) + rm2.locals ≤ rm.locals) (hkn : k + mc ≤ rm.cells ∧ n + ms ≤ rm.slots) (hAs : As.length = na) (hs : st0 = As.reverse ++ stf ad) (hst : ((stf ad).map fun v => v.category).sum ≤ 8) (hL : ∀ ad', zAg ad σ ad' → Lf ad' = Lf ad ∧ stf ad' = stf ad)
    (h : P) (hM : P → ∀ sz, zHi (zln E) y b ml ret rm2 D g ad σ As Q sz mc ms) (kk : ∀ (r : Int) (τ : zS) (ad' : zA), zEx ad σ ad' τ → Q r τ → zW E (zOK D A (zst E) g ad') (k + mc) (n + ms) (pc + 3) (Lf ad') (.int (zi r) :: stf ad') τ) : zW E (zOK D A (zst E) g ad) k n pc (Lf ad) st0 σ := by
  obtain ⟨p, l, e, R0, s, m, args, below, meth, c, nL, Z⟩ := E
  obtain ⟨C, hK, hRm, hN⟩ := C
  subst hs
  subst hRm
  intro H locs ls ho hl
  refine va_calli (z_runAs C hK S hA (hM h H.size) hY hAs hlink hR ho hl.1 hst d hkn) ho.2.2 (fun q _ h => zAx_sub hA ho h) (fun q h => zAx_sub hA ho h) (fun r u t H1 locs1 ht hvm hw hB hz1 hk1 hS1 => ?_)
  obtain ⟨z, rfl, hq, hX⟩ := hw
  have hl2 := hL u.2 hX.2
  have kk := kk z u.1 u.2 hX hq H1 locs1 ls (zBa_ok (fun q h => zAx_sub hA ho h) ht hB hS1) (by rw [hl2.1]; exact hl)
  rw [hl2.2] at kk
  exact kk
theorem xa_callVv {y : MethodName} {b : ByteArray} {ml index : Nat} {ret : Option FieldType} {rm2 : Room} {As st0 : List Value} {na : Nat} {ci N : Nat} {fs : List Value} {T : u_T} {Q : zS → Prop} {P : Prop} (Lf : zA → List (Nat × Value)) (stf : zA → List Value) (C : zX E cc own D g rm nl) (S : zSt g A (zst E) (zst E).heap) (hA : ∀ q, (zst E).heap.size ≤ q → A q) (hY : zY y b ml ret na) (t : zT) (ht0 : t ∈ zids σ) (hct : ct g ad σ t = .inr (ci, fs)) (hc : classes[ci]? = some (y.cls, T, N)) (hlink : Cond.methodLink own index y ∈ lw_g) (d : decode cc pc = .ok (.invokevirtual index, 3)) (hR : rm2.cells = mc ∧ rm2.slots = ms ∧ rm2.frames + 1 ≤ rm.frames ∧ 8 + (ml + 11) + rm2.locals ≤ rm.locals) (hkn : k + mc ≤ rm.cells ∧ n + ms ≤ rm.slots) (hAs : As.length = na) (hs : st0 = As.reverse ++ .ref (ad t) :: stf ad) (hst : ((stf ad).map fun v => v.category).sum ≤ 8) (hL : ∀ ad', zAg ad σ ad' → Lf ad' = Lf ad ∧ stf ad' = stf ad)
    (h : P) (hM : P → ∀ sz, zHv (zln E) y b ml ret rm2 D g ad σ (.ref (ad t) :: As) Q sz mc ms) (kk : ∀ (τ : zS) (ad' : zA), zEx ad σ ad' τ → Q τ → zW E (zOK D A (zst E) g ad') (k + mc) (n + ms) (pc + 3) (Lf ad') (stf ad') τ) : zW E (zOK D A (zst E) g ad) k n pc (Lf ad) st0 σ := by
  obtain ⟨p, l, e, R0, s, m, args, below, meth, c, nL, Z⟩ := E
  obtain ⟨C, hK, hRm, hN⟩ := C
  subst hs
  subst hRm
  intro H locs ls ho hl
  refine va_callv (z_runA (t := t) C hK S hA (hM h H.size) hY hAs hlink hR ht0 hct hc ho hl.1 hst d hkn) ho.2.2 (fun q _ h => zAx_sub hA ho h) (fun q h => zAx_sub hA ho h) (fun u t H1 locs1 ht hvm hw hB hz1 hk1 hS1 => ?_)
  obtain ⟨hq, hX⟩ := hw
  have hl2 := hL u.2 hX.2
  have kk := kk u.1 u.2 hX hq H1 locs1 ls (zBa_ok (fun q h => zAx_sub hA ho h) ht hB hS1) (by rw [hl2.1]; exact hl)
  rw [hl2.2] at kk
  exact kk
theorem xa_callSv {y : MethodName} {b : ByteArray} {ml index : Nat} {ret : Option FieldType} {rm2 : Room} {As st0 : List Value} {na : Nat} {Q : zS → Prop} {P : Prop} (Lf : zA → List (Nat × Value)) (stf : zA → List Value) (C : zX E cc own D g rm nl) (S : zSt g A (zst E) (zst E).heap) (hA : ∀ q, (zst E).heap.size ≤ q → A q) (hY : zYs y b ml ret na) (hlink : Cond.methodLink own index y ∈ lw_g) (d : decode cc pc = .ok (.invokestatic index, 3)) (hR : rm2.cells = mc ∧ rm2.slots = ms ∧ rm2.frames + 1 ≤ rm.frames ∧ 8 + (ml + 11) + rm2.locals ≤ rm.locals) (hkn : k + mc ≤ rm.cells ∧ n + ms ≤ rm.slots) (hAs : As.length = na) (hs : st0 = As.reverse ++ stf ad) (hst : ((stf ad).map fun v => v.category).sum ≤ 8) (hL : ∀ ad', zAg ad σ ad' → Lf ad' = Lf ad ∧ stf ad' = stf ad)
    (h : P) (hM : P → ∀ sz, zHv (zln E) y b ml ret rm2 D g ad σ As Q sz mc ms) (kk : ∀ (τ : zS) (ad' : zA), zEx ad σ ad' τ → Q τ → zW E (zOK D A (zst E) g ad') (k + mc) (n + ms) (pc + 3) (Lf ad') (stf ad') τ) : zW E (zOK D A (zst E) g ad) k n pc (Lf ad) st0 σ := by
  obtain ⟨p, l, e, R0, s, m, args, below, meth, c, nL, Z⟩ := E
  obtain ⟨C, hK, hRm, hN⟩ := C
  subst hs
  subst hRm
  intro H locs ls ho hl
  refine va_callv (z_runAs C hK S hA (hM h H.size) hY hAs hlink hR ho hl.1 hst d hkn) ho.2.2 (fun q _ h => zAx_sub hA ho h) (fun q h => zAx_sub hA ho h) (fun u t H1 locs1 ht hvm hw hB hz1 hk1 hS1 => ?_)
  obtain ⟨hq, hX⟩ := hw
  have hl2 := hL u.2 hX.2
  have kk := kk u.1 u.2 hX hq H1 locs1 ls (zBa_ok (fun q h => zAx_sub hA ho h) ht hB hS1) (by rw [hl2.1]; exact hl)
  rw [hl2.2] at kk
  exact kk
theorem xa_callVr {y : MethodName} {b : ByteArray} {ml index : Nat} {ret : Option FieldType} {rm2 : Room} {As st0 : List Value} {na : Nat} {tr : Nat} {ci N : Nat} {fs : List Value} {T : u_T} {Q : Int → zS → Prop} {P : Prop} (Lf : zA → List (Nat × Value)) (stf : zA → List Value) (C : zX E cc own D g rm nl) (S : zSt g A (zst E) (zst E).heap) (hA : ∀ q, (zst E).heap.size ≤ q → A q) (hY : zY y b ml ret na) (t : zT) (ht0 : t ∈ zids σ) (hct : ct g ad σ t = .inr (ci, fs)) (hc : classes[ci]? = some (y.cls, T, N)) (hlink : Cond.methodLink own index y ∈ lw_g) (d : decode cc pc = .ok (.invokevirtual index, 3)) (hR : rm2.cells = mc ∧ rm2.slots = ms ∧ rm2.frames + 1 ≤ rm.frames ∧ 8 + (ml + 11) + rm2.locals ≤ rm.locals) (hkn : k + mc ≤ rm.cells ∧ n + ms ≤ rm.slots) (hAs : As.length = na) (hs : st0 = As.reverse ++ .ref (ad t) :: stf ad) (hst : ((stf ad).map fun v => v.category).sum ≤ 8) (hL : ∀ ad', zAg ad σ ad' → Lf ad' = Lf ad ∧ stf ad' = stf ad)
    (h : P) (hM : P → ∀ sz, zHr tr (zln E) y b ml ret rm2 D g ad σ (.ref (ad t) :: As) Q sz mc ms) (kk : ∀ (r : Int) (τ : zS) (ad' : zA), zEx ad σ ad' τ → Q r τ → zW E (zOK D A (zst E) g ad') (k + mc) (n + ms) (pc + 3) (Lf ad') (zr ad' tr r :: stf ad') τ) : zW E (zOK D A (zst E) g ad) k n pc (Lf ad) st0 σ := by
  obtain ⟨p, l, e, R0, s, m, args, below, meth, c, nL, Z⟩ := E
  obtain ⟨C, hK, hRm, hN⟩ := C
  subst hs
  subst hRm
  intro H locs ls ho hl
  refine va_callq (z_runA (t := t) C hK S hA (hM h H.size) hY hAs hlink hR ht0 hct hc ho hl.1 hst d hkn) ho.2.2 (fun q _ h => zAx_sub hA ho h) (fun q h => zAx_sub hA ho h) (fun r u t H1 locs1 ht hvm hw hB hz1 hk1 hS1 => ?_)
  obtain ⟨z, rfl, hq, hX⟩ := hw
  have hl2 := hL u.2 hX.2
  have kk := kk z u.1 u.2 hX hq H1 locs1 ls (zBa_ok (fun q h => zAx_sub hA ho h) ht hB hS1) (by rw [hl2.1]; exact hl)
  rw [hl2.2] at kk
  exact kk
theorem xa_callSr {y : MethodName} {b : ByteArray} {ml index : Nat} {ret : Option FieldType} {rm2 : Room} {As st0 : List Value} {na : Nat} {tr : Nat} {Q : Int → zS → Prop} {P : Prop} (Lf : zA → List (Nat × Value)) (stf : zA → List Value) (C : zX E cc own D g rm nl) (S : zSt g A (zst E) (zst E).heap) (hA : ∀ q, (zst E).heap.size ≤ q → A q) (hY : zYs y b ml ret na) (hlink : Cond.methodLink own index y ∈ lw_g) (d : decode cc pc = .ok (.invokestatic index, 3)) (hR : rm2.cells = mc ∧ rm2.slots = ms ∧ rm2.frames + 1 ≤ rm.frames ∧ 8 + (ml + 11) + rm2.locals ≤ rm.locals) (hkn : k + mc ≤ rm.cells ∧ n + ms ≤ rm.slots) (hAs : As.length = na) (hs : st0 = As.reverse ++ stf ad) (hst : ((stf ad).map fun v => v.category).sum ≤ 8) (hL : ∀ ad', zAg ad σ ad' → Lf ad' = Lf ad ∧ stf ad' = stf ad)
    (h : P) (hM : P → ∀ sz, zHr tr (zln E) y b ml ret rm2 D g ad σ As Q sz mc ms) (kk : ∀ (r : Int) (τ : zS) (ad' : zA), zEx ad σ ad' τ → Q r τ → zW E (zOK D A (zst E) g ad') (k + mc) (n + ms) (pc + 3) (Lf ad') (zr ad' tr r :: stf ad') τ) : zW E (zOK D A (zst E) g ad) k n pc (Lf ad) st0 σ := by
  obtain ⟨p, l, e, R0, s, m, args, below, meth, c, nL, Z⟩ := E
  obtain ⟨C, hK, hRm, hN⟩ := C
  subst hs
  subst hRm
  intro H locs ls ho hl
  refine va_callq (z_runAs C hK S hA (hM h H.size) hY hAs hlink hR ho hl.1 hst d hkn) ho.2.2 (fun q _ h => zAx_sub hA ho h) (fun q h => zAx_sub hA ho h) (fun r u t H1 locs1 ht hvm hw hB hz1 hk1 hS1 => ?_)
  obtain ⟨z, rfl, hq, hX⟩ := hw
  have hl2 := hL u.2 hX.2
  have kk := kk z u.1 u.2 hX hq H1 locs1 ls (zBa_ok (fun q h => zAx_sub hA ho h) ht hB hS1) (by rw [hl2.1]; exact hl)
  rw [hl2.2] at kk
  exact kk
/-- a new node: all its fields are zero or null -/
def zdef4 (k : Nat) : Int := if k = 1 ∨ k = 2 ∨ k = 3 ∨ k = 5 ∨ k = 14 then -1 else 0
def znew4 (σ : zS) : zS := fun k i => if k < 18 ∧ i = σ 70 0 then zdef4 k else if k = 70 ∧ i = 0 then σ 70 0 + 1 else σ k i
def zdef5 (k : Nat) : Int := if k = 25 then -1 else 0
def znew5 (σ : zS) : zS := fun k i => if 20 ≤ k ∧ k ≤ 25 ∧ i = σ 71 0 then zdef5 k else if k = 71 ∧ i = 0 then σ 71 0 + 1 else σ k i
/-- a new pattern of class c -/
def zdef6 (c : Int) (k : Nat) : Int := if k = 30 then c else if k = 31 ∧ c = 0 then 0 else -1
def znew6 (c : Int) (σ : zS) : zS := fun k i => if 30 ≤ k ∧ k ≤ 32 ∧ i = σ 72 0 then zdef6 c k else if k = 72 ∧ i = 0 then σ 72 0 + 1 else σ k i
theorem nd_append {α : Type} {a b c : List α} {x : α} (h : (a ++ b ++ c).Nodup) (hx : x ∉ a ++ b ++ c) : (a ++ (b ++ [x]) ++ c).Nodup := by
  have hp : List.Perm (a ++ (b ++ [x]) ++ c) (x :: (a ++ b ++ c)) := by
    have h1 : List.Perm (a ++ (b ++ [x]) ++ c) (a ++ b ++ ([x] ++ c)) := by simp
    refine h1.trans ?_
    exact List.perm_middle
  exact hp.nodup_iff.mpr (List.nodup_cons.mpr ⟨hx, h⟩)
theorem zids_new {σ τ : zS} {s fam : Nat} (hs : (s = 4 ∧ fam = 70) ∨ (s = 5 ∧ fam = 71) ∨ (s = 6 ∧ fam = 72)) (h0 : 0 ≤ σ fam 0) (h47 : τ 47 = σ 47) (hf : τ fam 0 = σ fam 0 + 1) (ho : ∀ f, f = 70 ∨ f = 71 ∨ f = 72 → f ≠ fam → τ f 0 = σ f 0) : (s, (σ fam 0).toNat) ∉ zids σ ∧ (∀ t, t ∈ zids τ ↔ (t = (s, (σ fam 0).toNat) ∨ t ∈ zids σ)) ∧ ((zids σ).Nodup → (zids τ).Nodup) := by
  have hr : List.range (τ fam 0).toNat = List.range (σ fam 0).toNat ++ [(σ fam 0).toNat] := by
    rw [hf, show (σ fam 0 + 1).toNat = (σ fam 0).toNat + 1 by omega, List.range_succ]
  have hnot : (s, (σ fam 0).toNat) ∉ zids σ := by
    intro h
    rcases hs with ⟨rfl, rfl⟩ | ⟨rfl, rfl⟩ | ⟨rfl, rfl⟩
    · have := zids_four h
      omega
    · have := zids_five h
      omega
    · have := zids_six h
      omega
  refine ⟨hnot, ?_⟩
  rcases hs with ⟨rfl, rfl⟩ | ⟨rfl, rfl⟩ | ⟨rfl, rfl⟩
  · have e : zids τ = (zfix ++ ((List.range 6).filter (fun i : Nat => decide (0 < σ 47 i))).map (fun i => (2, i))) ++ ((List.range (σ 70 0).toNat).map (fun i => (4, i)) ++ [(4, (σ 70 0).toNat)]) ++ ((List.range (σ 71 0).toNat).map (fun i => (5, i)) ++ (List.range (σ 72 0).toNat).map (fun i => (6, i))) := by
      simp only [zids, h47, hr, ho 71 (by simp) (by decide), ho 72 (by simp) (by decide), List.map_append, List.map_cons, List.map_nil, List.append_assoc]
    have e2 : zids σ = (zfix ++ ((List.range 6).filter (fun i : Nat => decide (0 < σ 47 i))).map (fun i => (2, i))) ++ (List.range (σ 70 0).toNat).map (fun i => (4, i)) ++ ((List.range (σ 71 0).toNat).map (fun i => (5, i)) ++ (List.range (σ 72 0).toNat).map (fun i => (6, i))) := by
      simp only [zids, List.append_assoc]
    refine ⟨fun t => ?_, fun hn => ?_⟩
    · rw [e, e2]
      simp only [List.mem_append, List.mem_singleton]
      constructor
      · rintro ((h | h | h) | h)
        · exact Or.inr (Or.inl (Or.inl h))
        · exact Or.inr (Or.inl (Or.inr h))
        · exact Or.inl h
        · exact Or.inr (Or.inr h)
      · rintro (h | (h | h) | h)
        · exact Or.inl (Or.inr (Or.inr h))
        · exact Or.inl (Or.inl h)
        · exact Or.inl (Or.inr (Or.inl h))
        · exact Or.inr h
    · rw [e]
      rw [e2] at hn hnot
      exact nd_append hn hnot
  · have e : zids τ = (zfix ++ ((List.range 6).filter (fun i : Nat => decide (0 < σ 47 i))).map (fun i => (2, i)) ++ (List.range (σ 70 0).toNat).map (fun i => (4, i))) ++ ((List.range (σ 71 0).toNat).map (fun i => (5, i)) ++ [(5, (σ 71 0).toNat)]) ++ (List.range (σ 72 0).toNat).map (fun i => (6, i)) := by
      simp only [zids, h47, hr, ho 70 (by simp) (by decide), ho 72 (by simp) (by decide), List.map_append, List.map_cons, List.map_nil]
    have e2 : zids σ = (zfix ++ ((List.range 6).filter (fun i : Nat => decide (0 < σ 47 i))).map (fun i => (2, i)) ++ (List.range (σ 70 0).toNat).map (fun i => (4, i))) ++ (List.range (σ 71 0).toNat).map (fun i => (5, i)) ++ (List.range (σ 72 0).toNat).map (fun i => (6, i)) := rfl
    refine ⟨fun t => ?_, fun hn => ?_⟩
    · rw [e, e2]
      simp only [List.mem_append, List.mem_singleton]
      constructor
      · rintro ((h | h | h) | h)
        · exact Or.inr (Or.inl (Or.inl h))
        · exact Or.inr (Or.inl (Or.inr h))
        · exact Or.inl h
        · exact Or.inr (Or.inr h)
      · rintro (h | (h | h) | h)
        · exact Or.inl (Or.inr (Or.inr h))
        · exact Or.inl (Or.inl h)
        · exact Or.inl (Or.inr (Or.inl h))
        · exact Or.inr h
    · rw [e]
      rw [e2] at hn hnot
      exact nd_append hn hnot
  · have e : zids τ = (zfix ++ ((List.range 6).filter (fun i : Nat => decide (0 < σ 47 i))).map (fun i => (2, i)) ++ (List.range (σ 70 0).toNat).map (fun i => (4, i)) ++ (List.range (σ 71 0).toNat).map (fun i => (5, i))) ++ ((List.range (σ 72 0).toNat).map (fun i => (6, i)) ++ [(6, (σ 72 0).toNat)]) ++ [] := by
      simp only [zids, h47, hr, ho 70 (by simp) (by decide), ho 71 (by simp) (by decide), List.map_append, List.map_cons, List.map_nil, List.append_nil]
    have e2 : zids σ = (zfix ++ ((List.range 6).filter (fun i : Nat => decide (0 < σ 47 i))).map (fun i => (2, i)) ++ (List.range (σ 70 0).toNat).map (fun i => (4, i)) ++ (List.range (σ 71 0).toNat).map (fun i => (5, i))) ++ (List.range (σ 72 0).toNat).map (fun i => (6, i)) ++ [] := by
      simp only [zids, List.append_nil]
    refine ⟨fun t => ?_, fun hn => ?_⟩
    · rw [e, e2]
      simp only [List.mem_append, List.mem_singleton, List.append_nil, List.not_mem_nil, or_false]
      constructor
      · rintro (h | h | h)
        · exact Or.inr (Or.inl h)
        · exact Or.inr (Or.inr h)
        · exact Or.inl h
      · rintro (h | h | h)
        · exact Or.inr (Or.inr h)
        · exact Or.inl h
        · exact Or.inr (Or.inl h)
    · rw [e]
      rw [e2] at hn hnot
      exact nd_append hn hnot
theorem xa_new4 {index : Nat} (Lf : zA → List (Nat × Value)) (stf : zA → List Value) (C : zX E cc own D g rm nl) (hA : ∀ q, (zst E).heap.size ≤ q → A q) (hw : zWf σ) (h0 : 0 ≤ σ 70 0) (hcl : Cond.classLink own index R_ND ∈ lw_g) (d : decode cc pc = .ok (.new index, 3)) (hkn : k + 1 ≤ rm.cells ∧ n + 18 ≤ rm.slots) (hL : ∀ ad', zAg ad σ ad' → Lf ad' = Lf ad ∧ stf ad' = stf ad)
    (kk : ∀ ad' : zA, zEx ad σ ad' (znew4 σ) → zW E (zOK D A (zst E) g ad') (k + 1) (n + 18) (pc + 3) (Lf ad') (zr ad' 4 (σ 70 0) :: stf ad') (znew4 σ)) : zW E (zOK D A (zst E) g ad) k n pc (Lf ad) (stf ad) σ := by
  obtain ⟨p, l, e, R0, s, m, args, below, meth, c, nL, Z⟩ := E
  obtain ⟨⟨hx, hb, hml, hown, hts⟩, hK, hRm, hN⟩ := C
  subst hRm
  intro H locs ls ho hl
  have e0 : ∀ k, ¬ (k < 18) → k ≠ 70 → (znew4 σ) k = σ k := fun k h1 h2 => by
    funext i
    simp only [znew4]
    rw [if_neg (fun q => h1 (q.1)), if_neg (fun q => h2 q.1)]
  have ef : (znew4 σ) 70 0 = σ 70 0 + 1 := by simp [znew4]
  obtain ⟨hnew, hids, hnd⟩ := zids_new (σ := σ) (τ := znew4 σ) (s := 4) (fam := 70) (by simp) h0 (e0 47 (by omega) (by decide)) ef (fun f hf hne => by rw [e0 f (by omega) hne])
  refine va_new (ci := 4) (fs := (List.range 18).map fun f => nv g ad f (zdef4 f)) (C := R_ND) (T := F_ND) (N := 18) hx hb hts i_ND t_ND t_ND_ok hown (hts _ hcl) (hts _ wd_157) (hts _ wd_10) hK ho.1 (zD_va ho.2.1 _) ho.2.2 hA rfl (fun j hj => ?_) hkn.1 hkn.2 d (fun q H1 hP1 hD1 hS1 => ?_)
  · have : j = 0 ∨ j = 1 ∨ j = 2 ∨ j = 3 ∨ j = 4 ∨ j = 5 ∨ j = 6 ∨ j = 7 ∨ j = 8 ∨ j = 9 ∨ j = 10 ∨ j = 11 ∨ j = 12 ∨ j = 13 ∨ j = 14 ∨ j = 15 ∨ j = 16 ∨ j = 17 := by omega
    rcases this with rfl | rfl | rfl | rfl | rfl | rfl | rfl | rfl | rfl | rfl | rfl | rfl | rfl | rfl | rfl | rfl | rfl | rfl <;> rfl
  · have hok := z_grow (t0 := (4, (σ 70 0).toNat)) (τ := znew4 σ) hw ho hP1 hD1 hS1 hnew hids (hnd ho.2.1.2.2.1) (zLs_eq (fun k h1 h2 => e0 k (by omega) (by omega)) ho.2.1.2.2.2) (fun t ht => ?_) ?_
    · have hX : zEx ad σ (adup ad (4, (σ 70 0).toNat) q) (znew4 σ) := ⟨⟨by rw [ef]; omega, by rw [e0 71 (by omega) (by decide)]; exact Int.le_refl _, by rw [e0 72 (by omega) (by decide)]; exact Int.le_refl _⟩, fun t ht _ => by unfold adup; rw [if_neg (fun h => hnew (by rw [← h]; exact ht))]⟩
      have hl2 := hL _ hX.2
      have kk := kk _ hX H1 locs ls hok (by rw [hl2.1]; exact hl)
      rw [hl2.2, zr_s _ 4 h0, show adup ad (4, (σ 70 0).toNat) q (4, (σ 70 0).toNat) = q from if_pos rfl] at kk
      exact kk
    · obtain ⟨a, b⟩ := t
      by_cases h4 : a = 4
      · subst h4
        have hb := zids_four ht
        show Sum.inr (4, ctN g _ _ b) = Sum.inr (4, ctN g _ σ b)
        simp only [ctN]
        congr 2
        apply List.map_congr_left
        intro f _
        simp only [znew4]
        rw [if_neg (fun q => by omega), if_neg (fun q => by have := List.mem_range.mp (by assumption); omega)]
      · refine ct_fam (fun k hk => e0 k (fun q => ?_) (fun q => ?_)) <;> (have hz := zids_sort ht) <;> (rcases a with _ | _ | _ | _ | _ | _ | _ | a) <;> first | (rcases b with _ | _ | _ | b <;> simp only [fam] at hk <;> omega) | (have := (zids_two ht).1; simp only [fam] at hk; omega) | (simp only [fam] at hk; omega)
    · show Sum.inr (4, ctN g _ _ _) = _
      simp only [ctN]
      congr 2
      apply List.map_congr_left
      intro f hf
      have := List.mem_range.mp hf
      rw [Int.toNat_of_nonneg h0]
      simp only [znew4]
      rw [if_pos ⟨this, trivial⟩]
      rcases (show f = 1 ∨ f = 2 ∨ f = 3 ∨ f = 5 ∨ f = 14 ∨ (f ≠ 1 ∧ f ≠ 2 ∧ f ≠ 3 ∧ f ≠ 5 ∧ f ≠ 14) by omega) with rfl | rfl | rfl | rfl | rfl | ⟨q1, q2, q3, q4, q5⟩
      · rfl
      · rfl
      · rfl
      · rfl
      · rfl
      · unfold nv
        split <;> first | rfl | contradiction
theorem xa_new5 {index : Nat} (Lf : zA → List (Nat × Value)) (stf : zA → List Value) (C : zX E cc own D g rm nl) (hA : ∀ q, (zst E).heap.size ≤ q → A q) (hw : zWf σ) (h0 : 0 ≤ σ 71 0) (hcl : Cond.classLink own index R_CE ∈ lw_g) (d : decode cc pc = .ok (.new index, 3)) (hkn : k + 1 ≤ rm.cells ∧ n + 6 ≤ rm.slots) (hL : ∀ ad', zAg ad σ ad' → Lf ad' = Lf ad ∧ stf ad' = stf ad)
    (kk : ∀ ad' : zA, zEx ad σ ad' (znew5 σ) → zW E (zOK D A (zst E) g ad') (k + 1) (n + 6) (pc + 3) (Lf ad') (zr ad' 5 (σ 71 0) :: stf ad') (znew5 σ)) : zW E (zOK D A (zst E) g ad) k n pc (Lf ad) (stf ad) σ := by
  obtain ⟨p, l, e, R0, s, m, args, below, meth, c, nL, Z⟩ := E
  obtain ⟨⟨hx, hb, hml, hown, hts⟩, hK, hRm, hN⟩ := C
  subst hRm
  intro H locs ls ho hl
  have e0 : ∀ k, ¬ (20 ≤ k ∧ k ≤ 25) → k ≠ 71 → (znew5 σ) k = σ k := fun k h1 h2 => by
    funext i
    simp only [znew5]
    rw [if_neg (fun q => h1 (⟨q.1, q.2.1⟩)), if_neg (fun q => h2 q.1)]
  have ef : (znew5 σ) 71 0 = σ 71 0 + 1 := by simp [znew5]
  obtain ⟨hnew, hids, hnd⟩ := zids_new (σ := σ) (τ := znew5 σ) (s := 5) (fam := 71) (by simp) h0 (e0 47 (by omega) (by decide)) ef (fun f hf hne => by rw [e0 f (by omega) hne])
  refine va_new (ci := 5) (fs := (List.range 6).map fun f => cv ad f (zdef5 (20 + f))) (C := R_CE) (T := F_CE) (N := 6) hx hb hts i_CE t_CE t_CE_ok hown (hts _ hcl) (hts _ wd_423) (hts _ wd_21) hK ho.1 (zD_va ho.2.1 _) ho.2.2 hA rfl (fun j hj => ?_) hkn.1 hkn.2 d (fun q H1 hP1 hD1 hS1 => ?_)
  · have : j = 0 ∨ j = 1 ∨ j = 2 ∨ j = 3 ∨ j = 4 ∨ j = 5 := by omega
    rcases this with rfl | rfl | rfl | rfl | rfl | rfl <;> rfl
  · have hok := z_grow (t0 := (5, (σ 71 0).toNat)) (τ := znew5 σ) hw ho hP1 hD1 hS1 hnew hids (hnd ho.2.1.2.2.1) (zLs_eq (fun k h1 h2 => e0 k (by omega) (by omega)) ho.2.1.2.2.2) (fun t ht => ?_) ?_
    · have hX : zEx ad σ (adup ad (5, (σ 71 0).toNat) q) (znew5 σ) := ⟨⟨by rw [e0 70 (by omega) (by decide)]; exact Int.le_refl _, by rw [ef]; omega, by rw [e0 72 (by omega) (by decide)]; exact Int.le_refl _⟩, fun t ht _ => by unfold adup; rw [if_neg (fun h => hnew (by rw [← h]; exact ht))]⟩
      have hl2 := hL _ hX.2
      have kk := kk _ hX H1 locs ls hok (by rw [hl2.1]; exact hl)
      rw [hl2.2, zr_s _ 5 h0, show adup ad (5, (σ 71 0).toNat) q (5, (σ 71 0).toNat) = q from if_pos rfl] at kk
      exact kk
    · obtain ⟨a, b⟩ := t
      by_cases h4 : a = 5
      · subst h4
        have hb := zids_five ht
        show Sum.inr (5, ctC _ _ b) = Sum.inr (5, ctC _ σ b)
        simp only [ctC]
        congr 2
        apply List.map_congr_left
        intro f hf
        have := List.mem_range.mp hf
        simp only [znew5]
        rw [if_neg (fun q => by omega), if_neg (fun q => by omega)]
      · refine ct_fam (fun k hk => e0 k (fun q => ?_) (fun q => ?_)) <;> (have hz := zids_sort ht) <;> (rcases a with _ | _ | _ | _ | _ | _ | _ | a) <;> first | (rcases b with _ | _ | _ | b <;> simp only [fam] at hk <;> omega) | (have := (zids_two ht).1; simp only [fam] at hk; omega) | (simp only [fam] at hk; omega)
    · show Sum.inr (5, ctC _ _ _) = _
      simp only [ctC]
      congr 2
      apply List.map_congr_left
      intro f hf
      have := List.mem_range.mp hf
      rw [Int.toNat_of_nonneg h0]
      simp only [znew5]
      rw [if_pos ⟨by omega, by omega, trivial⟩]
      rcases (show f = 0 ∨ f = 1 ∨ f = 2 ∨ f = 3 ∨ f = 4 ∨ f = 5 by omega) with rfl | rfl | rfl | rfl | rfl | rfl <;> rfl
theorem xa_new6a {index : Nat} (Lf : zA → List (Nat × Value)) (stf : zA → List Value) (C : zX E cc own D g rm nl) (hA : ∀ q, (zst E).heap.size ≤ q → A q) (hw : zWf σ) (h0 : 0 ≤ σ 72 0) (hcl : Cond.classLink own index R_PI ∈ lw_g) (d : decode cc pc = .ok (.new index, 3)) (hkn : k + 1 ≤ rm.cells ∧ n + 1 ≤ rm.slots) (hL : ∀ ad', zAg ad σ ad' → Lf ad' = Lf ad ∧ stf ad' = stf ad)
    (kk : ∀ ad' : zA, zEx ad σ ad' (znew6 0 σ) → zW E (zOK D A (zst E) g ad') (k + 1) (n + 1) (pc + 3) (Lf ad') (zr ad' 6 (σ 72 0) :: stf ad') (znew6 0 σ)) : zW E (zOK D A (zst E) g ad) k n pc (Lf ad) (stf ad) σ := by
  obtain ⟨p, l, e, R0, s, m, args, below, meth, c, nL, Z⟩ := E
  obtain ⟨⟨hx, hb, hml, hown, hts⟩, hK, hRm, hN⟩ := C
  subst hRm
  intro H locs ls ho hl
  have e0 : ∀ k, ¬ (30 ≤ k ∧ k ≤ 32) → k ≠ 72 → (znew6 0 σ) k = σ k := fun k h1 h2 => by
    funext i
    simp only [znew6]
    rw [if_neg (fun q => h1 (⟨q.1, q.2.1⟩)), if_neg (fun q => h2 q.1)]
  have ef : (znew6 0 σ) 72 0 = σ 72 0 + 1 := by simp [znew6]
  obtain ⟨hnew, hids, hnd⟩ := zids_new (σ := σ) (τ := znew6 0 σ) (s := 6) (fam := 72) (by simp) h0 (e0 47 (by omega) (by decide)) ef (fun f hf hne => by rw [e0 f (by omega) hne])
  refine va_new (ci := 6) (fs := [.int (zi 0)]) (C := R_PI) (T := F_PI) (N := 1) hx hb hts i_PI t_PI t_PI_ok hown (hts _ hcl) (hts _ wd_387) (hts _ wd_18) hK ho.1 (zD_va ho.2.1 _) ho.2.2 hA rfl (fun j hj => ?_) hkn.1 hkn.2 d (fun q H1 hP1 hD1 hS1 => ?_)
  · have : j = 0 := by omega
    subst this
    rfl
  · have hok := z_grow (t0 := (6, (σ 72 0).toNat)) (τ := znew6 0 σ) hw ho hP1 hD1 hS1 hnew hids (hnd ho.2.1.2.2.1) (zLs_eq (fun k h1 h2 => e0 k (by omega) (by omega)) ho.2.1.2.2.2) (fun t ht => ?_) ?_
    · have hX : zEx ad σ (adup ad (6, (σ 72 0).toNat) q) (znew6 0 σ) := ⟨⟨by rw [e0 70 (by omega) (by decide)]; exact Int.le_refl _, by rw [e0 71 (by omega) (by decide)]; exact Int.le_refl _, by rw [ef]; omega⟩, fun t ht _ => by unfold adup; rw [if_neg (fun h => hnew (by rw [← h]; exact ht))]⟩
      have hl2 := hL _ hX.2
      have kk := kk _ hX H1 locs ls hok (by rw [hl2.1]; exact hl)
      rw [hl2.2, zr_s _ 6 h0, show adup ad (6, (σ 72 0).toNat) q (6, (σ 72 0).toNat) = q from if_pos rfl] at kk
      exact kk
    · obtain ⟨a, b⟩ := t
      by_cases h4 : a = 6
      · subst h4
        have hb := zids_six ht
        have e1 : ∀ f, f = 30 ∨ f = 31 ∨ f = 32 → (znew6 0 σ) f b = σ f b := fun f hf => by
          simp only [znew6]
          rw [if_neg (fun q => by omega), if_neg (fun q => by omega)]
        show ctP _ _ b = ctP _ σ b
        simp only [ctP, e1 30 (by simp), e1 31 (by simp), e1 32 (by simp)]
      · refine ct_fam (fun k hk => e0 k (fun q => ?_) (fun q => ?_)) <;> (have hz := zids_sort ht) <;> (rcases a with _ | _ | _ | _ | _ | _ | _ | a) <;> first | (rcases b with _ | _ | _ | b <;> simp only [fam] at hk <;> omega) | (have := (zids_two ht).1; simp only [fam] at hk; omega) | (simp only [fam] at hk; omega)
    · have e1 : ∀ f, f = 30 ∨ f = 31 ∨ f = 32 → (znew6 0 σ) f (σ 72 0) = zdef6 0 f := fun f hf => by
        simp only [znew6]
        rw [if_pos ⟨by omega, by omega, trivial⟩]
      show ctP _ _ _ = _
      simp only [ctP, Int.toNat_of_nonneg h0, e1 30 (by simp), e1 31 (by simp), e1 32 (by simp)]
      rfl
theorem xa_new6b {index : Nat} (Lf : zA → List (Nat × Value)) (stf : zA → List Value) (C : zX E cc own D g rm nl) (hA : ∀ q, (zst E).heap.size ≤ q → A q) (hw : zWf σ) (h0 : 0 ≤ σ 72 0) (hcl : Cond.classLink own index R_IN ∈ lw_g) (d : decode cc pc = .ok (.new index, 3)) (hkn : k + 1 ≤ rm.cells ∧ n + 1 ≤ rm.slots) (hL : ∀ ad', zAg ad σ ad' → Lf ad' = Lf ad ∧ stf ad' = stf ad)
    (kk : ∀ ad' : zA, zEx ad σ ad' (znew6 1 σ) → zW E (zOK D A (zst E) g ad') (k + 1) (n + 1) (pc + 3) (Lf ad') (zr ad' 6 (σ 72 0) :: stf ad') (znew6 1 σ)) : zW E (zOK D A (zst E) g ad) k n pc (Lf ad) (stf ad) σ := by
  obtain ⟨p, l, e, R0, s, m, args, below, meth, c, nL, Z⟩ := E
  obtain ⟨⟨hx, hb, hml, hown, hts⟩, hK, hRm, hN⟩ := C
  subst hRm
  intro H locs ls ho hl
  have e0 : ∀ k, ¬ (30 ≤ k ∧ k ≤ 32) → k ≠ 72 → (znew6 1 σ) k = σ k := fun k h1 h2 => by
    funext i
    simp only [znew6]
    rw [if_neg (fun q => h1 (⟨q.1, q.2.1⟩)), if_neg (fun q => h2 q.1)]
  have ef : (znew6 1 σ) 72 0 = σ 72 0 + 1 := by simp [znew6]
  obtain ⟨hnew, hids, hnd⟩ := zids_new (σ := σ) (τ := znew6 1 σ) (s := 6) (fam := 72) (by simp) h0 (e0 47 (by omega) (by decide)) ef (fun f hf hne => by rw [e0 f (by omega) hne])
  refine va_new (ci := 7) (fs := [zr ad 6 (-1)]) (C := R_IN) (T := F_IN) (N := 1) hx hb hts i_IN t_IN t_IN_ok hown (hts _ hcl) (hts _ wd_400) (hts _ wd_19) hK ho.1 (zD_va ho.2.1 _) ho.2.2 hA rfl (fun j hj => ?_) hkn.1 hkn.2 d (fun q H1 hP1 hD1 hS1 => ?_)
  · have : j = 0 := by omega
    subst this
    rfl
  · have hok := z_grow (t0 := (6, (σ 72 0).toNat)) (τ := znew6 1 σ) hw ho hP1 hD1 hS1 hnew hids (hnd ho.2.1.2.2.1) (zLs_eq (fun k h1 h2 => e0 k (by omega) (by omega)) ho.2.1.2.2.2) (fun t ht => ?_) ?_
    · have hX : zEx ad σ (adup ad (6, (σ 72 0).toNat) q) (znew6 1 σ) := ⟨⟨by rw [e0 70 (by omega) (by decide)]; exact Int.le_refl _, by rw [e0 71 (by omega) (by decide)]; exact Int.le_refl _, by rw [ef]; omega⟩, fun t ht _ => by unfold adup; rw [if_neg (fun h => hnew (by rw [← h]; exact ht))]⟩
      have hl2 := hL _ hX.2
      have kk := kk _ hX H1 locs ls hok (by rw [hl2.1]; exact hl)
      rw [hl2.2, zr_s _ 6 h0, show adup ad (6, (σ 72 0).toNat) q (6, (σ 72 0).toNat) = q from if_pos rfl] at kk
      exact kk
    · obtain ⟨a, b⟩ := t
      by_cases h4 : a = 6
      · subst h4
        have hb := zids_six ht
        have e1 : ∀ f, f = 30 ∨ f = 31 ∨ f = 32 → (znew6 1 σ) f b = σ f b := fun f hf => by
          simp only [znew6]
          rw [if_neg (fun q => by omega), if_neg (fun q => by omega)]
        show ctP _ _ b = ctP _ σ b
        simp only [ctP, e1 30 (by simp), e1 31 (by simp), e1 32 (by simp)]
      · refine ct_fam (fun k hk => e0 k (fun q => ?_) (fun q => ?_)) <;> (have hz := zids_sort ht) <;> (rcases a with _ | _ | _ | _ | _ | _ | _ | a) <;> first | (rcases b with _ | _ | _ | b <;> simp only [fam] at hk <;> omega) | (have := (zids_two ht).1; simp only [fam] at hk; omega) | (simp only [fam] at hk; omega)
    · have e1 : ∀ f, f = 30 ∨ f = 31 ∨ f = 32 → (znew6 1 σ) f (σ 72 0) = zdef6 1 f := fun f hf => by
        simp only [znew6]
        rw [if_pos ⟨by omega, by omega, trivial⟩]
      show ctP _ _ _ = _
      simp only [ctP, Int.toNat_of_nonneg h0, e1 30 (by simp), e1 31 (by simp), e1 32 (by simp)]
      rfl
theorem xa_new6c {index : Nat} (Lf : zA → List (Nat × Value)) (stf : zA → List Value) (C : zX E cc own D g rm nl) (hA : ∀ q, (zst E).heap.size ≤ q → A q) (hw : zWf σ) (h0 : 0 ≤ σ 72 0) (hcl : Cond.classLink own index R_NA ∈ lw_g) (d : decode cc pc = .ok (.new index, 3)) (hkn : k + 1 ≤ rm.cells ∧ n + 2 ≤ rm.slots) (hL : ∀ ad', zAg ad σ ad' → Lf ad' = Lf ad ∧ stf ad' = stf ad)
    (kk : ∀ ad' : zA, zEx ad σ ad' (znew6 2 σ) → zW E (zOK D A (zst E) g ad') (k + 1) (n + 2) (pc + 3) (Lf ad') (zr ad' 6 (σ 72 0) :: stf ad') (znew6 2 σ)) : zW E (zOK D A (zst E) g ad) k n pc (Lf ad) (stf ad) σ := by
  obtain ⟨p, l, e, R0, s, m, args, below, meth, c, nL, Z⟩ := E
  obtain ⟨⟨hx, hb, hml, hown, hts⟩, hK, hRm, hN⟩ := C
  subst hRm
  intro H locs ls ho hl
  have e0 : ∀ k, ¬ (30 ≤ k ∧ k ≤ 32) → k ≠ 72 → (znew6 2 σ) k = σ k := fun k h1 h2 => by
    funext i
    simp only [znew6]
    rw [if_neg (fun q => h1 (⟨q.1, q.2.1⟩)), if_neg (fun q => h2 q.1)]
  have ef : (znew6 2 σ) 72 0 = σ 72 0 + 1 := by simp [znew6]
  obtain ⟨hnew, hids, hnd⟩ := zids_new (σ := σ) (τ := znew6 2 σ) (s := 6) (fam := 72) (by simp) h0 (e0 47 (by omega) (by decide)) ef (fun f hf hne => by rw [e0 f (by omega) hne])
  refine va_new (ci := 8) (fs := [zr ad 6 (-1), zr ad 6 (-1)]) (C := R_NA) (T := F_NA) (N := 2) hx hb hts i_NA t_NA t_NA_ok hown (hts _ hcl) (hts _ wd_410) (hts _ wd_20) hK ho.1 (zD_va ho.2.1 _) ho.2.2 hA rfl (fun j hj => ?_) hkn.1 hkn.2 d (fun q H1 hP1 hD1 hS1 => ?_)
  · rcases (show j = 0 ∨ j = 1 by omega) with rfl | rfl <;> rfl
  · have hok := z_grow (t0 := (6, (σ 72 0).toNat)) (τ := znew6 2 σ) hw ho hP1 hD1 hS1 hnew hids (hnd ho.2.1.2.2.1) (zLs_eq (fun k h1 h2 => e0 k (by omega) (by omega)) ho.2.1.2.2.2) (fun t ht => ?_) ?_
    · have hX : zEx ad σ (adup ad (6, (σ 72 0).toNat) q) (znew6 2 σ) := ⟨⟨by rw [e0 70 (by omega) (by decide)]; exact Int.le_refl _, by rw [e0 71 (by omega) (by decide)]; exact Int.le_refl _, by rw [ef]; omega⟩, fun t ht _ => by unfold adup; rw [if_neg (fun h => hnew (by rw [← h]; exact ht))]⟩
      have hl2 := hL _ hX.2
      have kk := kk _ hX H1 locs ls hok (by rw [hl2.1]; exact hl)
      rw [hl2.2, zr_s _ 6 h0, show adup ad (6, (σ 72 0).toNat) q (6, (σ 72 0).toNat) = q from if_pos rfl] at kk
      exact kk
    · obtain ⟨a, b⟩ := t
      by_cases h4 : a = 6
      · subst h4
        have hb := zids_six ht
        have e1 : ∀ f, f = 30 ∨ f = 31 ∨ f = 32 → (znew6 2 σ) f b = σ f b := fun f hf => by
          simp only [znew6]
          rw [if_neg (fun q => by omega), if_neg (fun q => by omega)]
        show ctP _ _ b = ctP _ σ b
        simp only [ctP, e1 30 (by simp), e1 31 (by simp), e1 32 (by simp)]
      · refine ct_fam (fun k hk => e0 k (fun q => ?_) (fun q => ?_)) <;> (have hz := zids_sort ht) <;> (rcases a with _ | _ | _ | _ | _ | _ | _ | a) <;> first | (rcases b with _ | _ | _ | b <;> simp only [fam] at hk <;> omega) | (have := (zids_two ht).1; simp only [fam] at hk; omega) | (simp only [fam] at hk; omega)
    · have e1 : ∀ f, f = 30 ∨ f = 31 ∨ f = 32 → (znew6 2 σ) f (σ 72 0) = zdef6 2 f := fun f hf => by
        simp only [znew6]
        rw [if_pos ⟨by omega, by omega, trivial⟩]
      show ctP _ _ _ = _
      simp only [ctP, Int.toNat_of_nonneg h0, e1 30 (by simp), e1 31 (by simp), e1 32 (by simp)]
      rfl
end ZF
