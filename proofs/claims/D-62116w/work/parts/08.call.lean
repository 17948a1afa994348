/-! contracts that make nothing: from every heap that holds σ the method returns, Q holds of its answer and the new state -/
def zPc (D : va_G) (g : zG) (ad : zA) (σ : zS) (as : List Value) : Array Value → State → Prop := va_Pc as fun U => zP D g ad σ U.heap ∧ va_K D classes (ztys g) U ∧ zD (fun _ => True) ad σ
def zAd (ad : zA) (σ : zS) : Nat → Prop := fun q => ∃ t ∈ zids σ, ad t = q
def zB (D : va_G) (g : zG) (ad : zA) (A : Nat → Prop) (u : zS) (t : State) : Prop := zP D g ad u t.heap ∧ zD A ad u
def zQi (D : va_G) (g : zG) (ad : zA) (Q : Int → zS → Prop) (A : Nat → Prop) : Array Value → State → Outcome → State → Prop := va_Qi (fun r u => ∃ z, r = zi z ∧ Q z u) (zB D g ad A) A
def zQl (D : va_G) (g : zG) (ad : zA) (Q : Int → zS → Prop) (A : Nat → Prop) : Array Value → State → Outcome → State → Prop := va_Ql (fun r u => ∃ z, r = zj z ∧ Q z u) (zB D g ad A) A
def zQv (D : va_G) (g : zG) (ad : zA) (Q : zS → Prop) (A : Nat → Prop) : Array Value → State → Outcome → State → Prop := va_Qv Q (zB D g ad A) A
def zws (y : MethodName) (b : ByteArray) (ml : Nat) (ret : Option FieldType) : List Cond := .code y b ml ret :: lw_g
def zMi (l : Launch) (y : MethodName) (b : ByteArray) (ml : Nat) (ret : Option FieldType) (rm : Room) (D : va_G) (g : zG) (ad : zA) (σ : zS) (as : List Value) (Q : Int → zS → Prop) : Prop := Met l y (zws y b ml ret) rm (zPc D g ad σ as) (zQi D g ad Q (zAd ad σ)) 0 0 (zAd ad σ)
def zMl (l : Launch) (y : MethodName) (b : ByteArray) (ml : Nat) (ret : Option FieldType) (rm : Room) (D : va_G) (g : zG) (ad : zA) (σ : zS) (as : List Value) (Q : Int → zS → Prop) : Prop := Met l y (zws y b ml ret) rm (zPc D g ad σ as) (zQl D g ad Q (zAd ad σ)) 0 0 (zAd ad σ)
def zMv (l : Launch) (y : MethodName) (b : ByteArray) (ml : Nat) (ret : Option FieldType) (rm : Room) (D : va_G) (g : zG) (ad : zA) (σ : zS) (as : List Value) (Q : zS → Prop) : Prop := Met l y (zws y b ml ret) rm (zPc D g ad σ as) (zQv D g ad Q (zAd ad σ)) 0 0 (zAd ad σ)
/-- a method's start -/
theorem zM_of {l : Launch} {y : MethodName} {b : ByteArray} {ml : Nat} {ret : Option FieldType} {rm : Room} {D : va_G} {g : zG} {ad : zA} {σ : zS} {as : List Value} {Qc : Array Value → State → Outcome → State → Prop} (hy : plainName y.cls = true) (ha : (lg_sl as).length ≤ ml)
    (body : ∀ E : zE, zX E b y.cls D g rm ml → zRt E ret Qc 0 0 (zAd ad σ) → zln E = l → zW E (zOK D (zAd ad σ) (zst E) g ad) 0 0 0 (lv_args 0 as) [] σ) : Met l y (zws y b ml ret) rm (zPc D g ad σ as) Qc 0 0 (zAd ad σ) := by
  refine Met.ofW (cc := b) (maxL := ml) (ret := ret) hy rfl ?_
  intro p e s m args below meth c s₁ B hml hv
  obtain ⟨rfl, hP, hK, hD⟩ := hv
  have hts := atoms_spec (ws := zws y b ml ret) B.pre
  have hown : s.vm.findClass y.cls = some m.cls := findClass_of_methodNamed B.named
  have hl := lv_entry as (n := ml) ha
  rw [lg_entry_eq]
  generalize (lg_sl as ++ List.replicate (ml - (lg_sl as).length) Slot.unset).toArray = ls at hl ⊢
  exact body (p, l, e, (headSpec (zws y b ml ret) rm).room, s, m, as.toArray, below, meth, c, ml, _) ⟨⟨B.exec, B.bytes, hml, hown, fun w hw => hts w (List.mem_cons_of_mem _ hw)⟩, hK, rfl, rfl⟩ ⟨B.returns, B.notSynchronized, rfl⟩ rfl s.heap [] ls ⟨hP, ⟨hD.1, fun t ht => ⟨t, ht, rfl⟩, hD.2.2⟩, va_S.rf⟩ hl
theorem zws_good (y : MethodName) (b : ByteArray) (ml : Nat) (ret : Option FieldType) (hc : Cond.code y b ml ret ∈ lw_g) : GoodIn lw_g (zws y b ml ret) := by
  intro w hw
  rcases List.mem_cons.mp hw with rfl | hw
  · exact ⟨hc, lw_good _ hc⟩
  · exact ⟨hw, lw_good _ hw⟩
section ZK
variable {E : zE} {pc : Nat} {L : List (Nat × Value)} {st : List Value} {σ : zS} {cc : ByteArray} {own : String} {D : va_G} {g : zG} {rm : Room} {nl : Nat} {A : Nat → Prop} {ad : zA}
theorem z_iret {Q : Int → zS → Prop} {r : Int} (C : zX E cc own D g rm nl) (R : zRt E (some .int) (zQi D g ad Q A) 0 0 A) (d : decode cc pc = .ok (.ireturn, 1)) (h : Q r σ) : zW E (zOK D A (zst E) g ad) 0 0 pc L [.int (zi r)] σ := by
  obtain ⟨p, l, e, R0, s, m, args, below, meth, c, nL, Z⟩ := E
  obtain ⟨⟨hx, hb, hml, hown, hts⟩, hK, hR, hN⟩ := C
  obtain ⟨hr, hlk, hZ⟩ := R
  intro H locs ls ho hl
  obtain ⟨hP, hD, hS⟩ := ho
  subst hZ
  exact W.iret (v := zi r) hx hb hr (fun t ht hW => ⟨⟨zi r, σ, rfl, ⟨r, rfl, h⟩, by rw [ht]; exact hP, hD⟩, hS.F ht⟩) hS.2.2 d hlk
theorem z_zret {Q : Int → zS → Prop} {r : Int} (C : zX E cc own D g rm nl) (R : zRt E (some .boolean) (zQi D g ad Q A) 0 0 A) (d : decode cc pc = .ok (.ireturn, 1)) (hz : r = 0 ∨ r = 1) (h : Q r σ) : zW E (zOK D A (zst E) g ad) 0 0 pc L [.int (zi r)] σ := by
  obtain ⟨p, l, e, R0, s, m, args, below, meth, c, nL, Z⟩ := E
  obtain ⟨⟨hx, hb, hml, hown, hts⟩, hK, hR, hN⟩ := C
  obtain ⟨hr, hlk, hZ⟩ := R
  intro H locs ls ho hl
  obtain ⟨hP, hD, hS⟩ := ho
  subst hZ
  exact W.zret (v := zi r) hx hb hr (by rcases hz with rfl | rfl <;> decide) (fun t ht hW => ⟨⟨zi r, σ, rfl, ⟨r, rfl, h⟩, by rw [ht]; exact hP, hD⟩, hS.F ht⟩) hS.2.2 d hlk
theorem z_lret {Q : Int → zS → Prop} {r : Int} (C : zX E cc own D g rm nl) (R : zRt E (some .long) (zQl D g ad Q A) 0 0 A) (d : decode cc pc = .ok (.lreturn, 1)) (h : Q r σ) : zW E (zOK D A (zst E) g ad) 0 0 pc L [.long (zj r)] σ := by
  obtain ⟨p, l, e, R0, s, m, args, below, meth, c, nL, Z⟩ := E
  obtain ⟨⟨hx, hb, hml, hown, hts⟩, hK, hR, hN⟩ := C
  obtain ⟨hr, hlk, hZ⟩ := R
  intro H locs ls ho hl
  obtain ⟨hP, hD, hS⟩ := ho
  subst hZ
  exact W.lret (v := zj r) hx hb hr (fun t ht hW => ⟨⟨zj r, σ, rfl, ⟨r, rfl, h⟩, by rw [ht]; exact hP, hD⟩, hS.F ht⟩) hS.2.2 d hlk
theorem z_vret {Q : zS → Prop} (C : zX E cc own D g rm nl) (R : zRt E none (zQv D g ad Q A) 0 0 A) (d : decode cc pc = .ok (.return_, 1)) (h : Q σ) : zW E (zOK D A (zst E) g ad) 0 0 pc L [] σ := by
  obtain ⟨p, l, e, R0, s, m, args, below, meth, c, nL, Z⟩ := E
  obtain ⟨⟨hx, hb, hml, hown, hts⟩, hK, hR, hN⟩ := C
  obtain ⟨hr, hlk, hZ⟩ := R
  intro H locs ls ho hl
  obtain ⟨hP, hD, hS⟩ := ho
  subst hZ
  exact W.vret hx hb hr (fun t ht hW => ⟨⟨σ, rfl, h, by rw [ht]; exact hP, hD⟩, hS.F ht⟩) hS.2.2 d hlk
theorem zPc_blind {D : va_G} {g : zG} {ad : zA} {σ : zS} {as : List Value} : FrameBlind (zPc D g ad σ as) := fun a U gg mk q => by
  obtain ⟨q0, qP, qK, qD⟩ := q
  exact ⟨q0, qP, va_K.moved (u := U) (U := U.calling gg mk a) (Vm.Alike.refl U.vm) qK, qD⟩
/-- what a call of an instance method needs, in any state: the run -/
theorem z_runV {y : MethodName} {b : ByteArray} {ml index : Nat} {ret : Option FieldType} {rm2 : Room} {t : zT} {As : List Value} {na : Nat} {Qc : Array Value → State → Outcome → State → Prop} {p : Program} {l : Launch} {e : Env} {R : Room} {s : State} {m : MethodId} {args : Array Value} {below : List Frame} {meth : Method} {c : Code} {nL k n : Nat} {H : Heap} {locs : List Loc} {ls : Array Slot} {ci : Nat} {fs : List Value} {T : u_T} {N : Nat} {free : Addr → Prop}
    (C : CallFix p m c cc nL s args lw_g own) (hK : va_K D classes (ztys g) s) (hM : Met l y (zws y b ml ret) rm2 (zPc D g ad σ (.ref (ad t) :: As)) Qc 0 0 free) (hY : zY y b ml ret na) (hAs : As.length = na) (hlink : Cond.methodLink own index y ∈ lw_g) (hR : rm2.cells = 0 ∧ rm2.slots = 0 ∧ rm2.frames + 1 ≤ R.frames ∧ 8 + (ml + 11) + rm2.locals ≤ R.locals) (ht : t ∈ zids σ) (hct : ct g ad σ t = .inr (ci, fs)) (hc : classes[ci]? = some (y.cls, T, N))
    (hP : zP D g ad σ H) (hD : zD A ad σ) (hl : ls.size = nL) (hst : (st.map fun v => v.category).sum ≤ 8) (d : decode cc pc = .ok (.invokevirtual index, 3)) (hk : k ≤ R.cells ∧ n ≤ R.slots) :
    va_Run p l e R s m args below meth c H locs k n 0 0 (F0 m pc ls (As.reverse ++ .ref (ad t) :: st)) st (Qc (Value.ref (ad t) :: As).toArray) free := by
  obtain ⟨hx, hb, hml, hown, hts⟩ := C
  obtain ⟨y1, y2, y3, y4, y5, y6, y7⟩ := hY
  obtain ⟨r1, r2, r3, r4⟩ := hR
  have hG : GoodIn lw_g (wsV own index y.cls y (zws y b ml ret)) := by
    intro w hw
    simp only [wsV, List.mem_append, List.mem_cons, List.not_mem_nil, or_false] at hw
    rcases hw with (rfl | rfl | rfl | rfl) | hw
    · exact ⟨hlink, lw_good _ hlink⟩
    · exact ⟨y1, lw_good _ y1⟩
    · exact ⟨y2, lw_good _ y2⟩
    · exact ⟨y3, lw_good _ y3⟩
    · exact zws_good y b ml ret y4 w hw
  obtain ⟨q, -, hq⟩ := gw_get (ad := ad) (ct := ct g ad σ) ht
  exact va_runV (As := As) (rest := st) ⟨hx, hb, hml, hown, hts⟩ hM (cwV na hts hG rfl r1 r2 ⟨rfl, y5, y6, y7⟩ ⟨r3, r4⟩) ⟨zPc_blind, va_recv hK hP hc (hq.trans (by rw [hct])), fun U hU hW => ⟨rfl, by rw [hU]; exact hP, va_K.moved hW.alike hK, ⟨hD.1, fun _ _ => trivial, hD.2.2⟩⟩⟩ rfl hAs hl rfl (lv_room hst) d hk
theorem zAd_sub {q : Nat} (hD : zD A ad σ) (h : zAd ad σ q) : A q := by
  obtain ⟨t, ht, rfl⟩ := h
  exact hD.2.1 t ht
theorem m_calli {y : MethodName} {b : ByteArray} {ml index : Nat} {ret : Option FieldType} {rm2 : Room} {As st0 : List Value} {na : Nat} {Q : Int → zS → Prop} {P : Prop} (C : zX E cc own D g rm nl) (hY : zY y b ml ret na) (hcls : y.cls = R_MM) (hlink : Cond.methodLink own index y ∈ lw_g) (d : decode cc pc = .ok (.invokevirtual index, 3)) (hR : rm2.cells = 0 ∧ rm2.slots = 0 ∧ rm2.frames + 1 ≤ rm.frames ∧ 8 + (ml + 11) + rm2.locals ≤ rm.locals) (hAs : As.length = na) (hs : st0 = As.reverse ++ .ref (ad (0, 3)) :: st) (hst : (st.map fun v => v.category).sum ≤ 8)
    (h : P) (hM : P → zMi (zln E) y b ml ret rm2 D g ad σ (.ref (ad (0, 3)) :: As) Q) (kk : ∀ r τ, Q r τ → zW E (zOK D A (zst E) g ad) 0 0 (pc + 3) L (.int (zi r) :: st) τ) : zW E (zOK D A (zst E) g ad) 0 0 pc L st0 σ := by
  obtain ⟨p, l, e, R0, s, m, args, below, meth, c, nL, Z⟩ := E
  obtain ⟨C, hK, hRm, hN⟩ := C
  subst hs
  subst hRm
  intro H locs ls ho hl
  obtain ⟨hP, hD, hS⟩ := ho
  refine va_calli (z_runV (t := (0, 3)) (ci := 9) (T := F_MM) (N := 51) C hK (hM h) hY hAs hlink hR (zids_fix zfix_3) rfl (by rw [hcls]; rfl) hP hD hl.1 hst d ⟨Nat.zero_le _, Nat.zero_le _⟩) hS (fun q _ h => zAd_sub hD h) (fun q h => zAd_sub hD h) (fun r u t H1 locs1 ht hvm hw hB hz1 hk1 hS1 => ?_)
  obtain ⟨z, rfl, hq⟩ := hw
  exact kk z u hq H1 locs1 ls ⟨by rw [← ht]; exact hB.1, ⟨hB.2.1, fun t' ht' => zAd_sub hD (hB.2.2.1 t' ht'), hB.2.2.2⟩, hS1⟩ hl
theorem m_callv {y : MethodName} {b : ByteArray} {ml index : Nat} {ret : Option FieldType} {rm2 : Room} {As st0 : List Value} {na : Nat} {Q : zS → Prop} {P : Prop} (C : zX E cc own D g rm nl) (hY : zY y b ml ret na) (hcls : y.cls = R_MM) (hlink : Cond.methodLink own index y ∈ lw_g) (d : decode cc pc = .ok (.invokevirtual index, 3)) (hR : rm2.cells = 0 ∧ rm2.slots = 0 ∧ rm2.frames + 1 ≤ rm.frames ∧ 8 + (ml + 11) + rm2.locals ≤ rm.locals) (hAs : As.length = na) (hs : st0 = As.reverse ++ .ref (ad (0, 3)) :: st) (hst : (st.map fun v => v.category).sum ≤ 8)
    (h : P) (hM : P → zMv (zln E) y b ml ret rm2 D g ad σ (.ref (ad (0, 3)) :: As) Q) (kk : ∀ τ, Q τ → zW E (zOK D A (zst E) g ad) 0 0 (pc + 3) L st τ) : zW E (zOK D A (zst E) g ad) 0 0 pc L st0 σ := by
  obtain ⟨p, l, e, R0, s, m, args, below, meth, c, nL, Z⟩ := E
  obtain ⟨C, hK, hRm, hN⟩ := C
  subst hs
  subst hRm
  intro H locs ls ho hl
  obtain ⟨hP, hD, hS⟩ := ho
  refine va_callv (z_runV (t := (0, 3)) (ci := 9) (T := F_MM) (N := 51) C hK (hM h) hY hAs hlink hR (zids_fix zfix_3) rfl (by rw [hcls]; rfl) hP hD hl.1 hst d ⟨Nat.zero_le _, Nat.zero_le _⟩) hS (fun q _ h => zAd_sub hD h) (fun q h => zAd_sub hD h) (fun u t H1 locs1 ht hvm hq hB hz1 hk1 hS1 => ?_)
  exact kk u hq H1 locs1 ls ⟨by rw [← ht]; exact hB.1, ⟨hB.2.1, fun t' ht' => zAd_sub hD (hB.2.2.1 t' ht'), hB.2.2.2⟩, hS1⟩ hl
/-- a call of a static method of the same class -/
theorem z_callSi {y : MethodName} {b : ByteArray} {ml index : Nat} {ret : Option FieldType} {rm2 : Room} {As st0 : List Value} {na : Nat} {Q : Int → zS → Prop} {P : Prop} (C : zX E cc own D g rm nl) (hY : zYs y b ml ret na) (hcls : y.cls = own) (hlink : Cond.methodLink own index y ∈ lw_g) (d : decode cc pc = .ok (.invokestatic index, 3)) (hR : rm2.cells = 0 ∧ rm2.slots = 0 ∧ rm2.frames + 1 ≤ rm.frames ∧ 8 + (ml + 11) + rm2.locals ≤ rm.locals) (hAs : As.length = na) (hs : st0 = As.reverse ++ st) (hst : (st.map fun v => v.category).sum ≤ 8)
    (h : P) (hM : P → zMi (zln E) y b ml ret rm2 D g ad σ As Q) (kk : ∀ r τ, Q r τ → zW E (zOK D A (zst E) g ad) 0 0 (pc + 3) L (.int (zi r) :: st) τ) : zW E (zOK D A (zst E) g ad) 0 0 pc L st0 σ := by
  obtain ⟨p, l, e, R0, s, m, args, below, meth, c, nL, Z⟩ := E
  obtain ⟨⟨hx, hb, hml, hown, hts⟩, hK, hRm, hN⟩ := C
  subst hs
  subst hRm
  intro H locs ls ho hl
  obtain ⟨hP, hD, hS⟩ := ho
  obtain ⟨y1, y2, y3, y4, y5, y6⟩ := hY
  obtain ⟨r1, r2, r3, r4⟩ := hR
  have hG : GoodIn lw_g (wsS own index y (zws y b ml ret)) := by
    intro w hw
    simp only [wsS, List.mem_append, List.mem_cons, List.not_mem_nil, or_false] at hw
    rcases hw with (rfl | rfl | rfl) | hw
    · exact ⟨hlink, lw_good _ hlink⟩
    · exact ⟨y1, lw_good _ y1⟩
    · rw [← hcls]; exact ⟨y2, lw_good _ y2⟩
    · exact zws_good y b ml ret y3 w hw
  refine va_calli (va_runS (As := As) (rest := st) ⟨hx, hb, hml, hown, hts⟩ (hM h) (cwS na hts hG rfl r1 r2 ⟨hcls, y4, y5, y6⟩ ⟨r3, r4⟩) ⟨zPc_blind, fun U hU hW => ⟨rfl, by rw [hU]; exact hP, va_K.moved hW.alike hK, ⟨hD.1, fun _ _ => trivial, hD.2.2⟩⟩⟩ rfl hAs hl.1 rfl (lv_room hst) d ⟨Nat.zero_le _, Nat.zero_le _⟩) hS (fun q _ h => zAd_sub hD h) (fun q h => zAd_sub hD h) (fun r u t H1 locs1 ht hvm hw hB hz1 hk1 hS1 => ?_)
  obtain ⟨z, rfl, hq⟩ := hw
  exact kk z u hq H1 locs1 ls ⟨by rw [← ht]; exact hB.1, ⟨hB.2.1, fun t' ht' => zAd_sub hD (hB.2.2.1 t' ht'), hB.2.2.2⟩, hS1⟩ hl
/-- a state, a number get a name -/
theorem zN {OK : zS → Heap → List Loc → Prop} {k n : Nat} {P : zS → Prop} {τ0 : zS} (h : ∀ τ, τ = τ0 → P τ) (kk : ∀ τ, τ = τ0 → P τ → zW E OK k n pc L st τ) : zW E OK k n pc L st τ0 := kk _ rfl (h _ rfl)
theorem zNi {OK : zS → Heap → List Loc → Prop} {k n : Nat} {P : Int → Prop} {x : Int} (h : ∀ y, y = x → P y) (kk : ∀ y, y = x → P y → zW E OK k n pc L (.int (zi y) :: st) σ) : zW E OK k n pc L (.int (zi x) :: st) σ := kk _ rfl (h _ rfl)
theorem zNj {OK : zS → Heap → List Loc → Prop} {k n : Nat} {P : Int → Prop} {x : Int} (h : ∀ y, y = x → P y) (kk : ∀ y, y = x → P y → zW E OK k n pc L (.long (zj y) :: st) σ) : zW E OK k n pc L (.long (zj x) :: st) σ := kk _ rfl (h _ rfl)
theorem z_bool {t : FieldType} {v : Int} (ht : t = .boolean) (h : v = 0 ∨ v = 1) : narrow t (.int (zi v)) = .int (zi v) ∧ fits t (.int (zi v)) = true := by
  subst ht
  rcases h with rfl | rfl <;> decide
end ZK
