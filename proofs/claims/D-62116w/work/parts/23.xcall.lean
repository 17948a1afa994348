/-! what is there from the start and stays: the kinds, the lists' empty array; words that no steady reader carries -/
def zKn : List String := ["INPUT", "LATCH", "NAND", "INV"]
def zKF : List (String × String × String × List Int32) := [("java/lang/Enum", "ordinal", "I", [0, 1, 2, 3]), ("CellMapper$Kind", "logic", "Z", [0, 0, 1, 1])]
def x_lay : MethodName := ⟨"CellMapper$Pattern", "lay", "(LCellMapper$Node;Z)I"⟩
def x_bind : MethodName := ⟨"CellMapper$Pattern", "bind", "(LCellMapper$Node;[LCellMapper$Node;I)V"⟩
def x_value : MethodName := ⟨"CellMapper$Pattern", "value", "(I)I"⟩
def zFw : List (String × MethodName × MethodName) := [(R_PI, x_lay, y_PI_lay), (R_IN, x_lay, y_IN_lay), (R_NA, x_lay, y_NA_lay), (R_PI, x_bind, y_PI_bind), (R_IN, x_bind, y_IN_bind), (R_NA, x_bind, y_NA_bind), (R_PI, x_value, y_PI_value), (R_IN, x_value, y_IN_value), (R_NA, x_value, y_NA_value)]
def zNs : List (String × Nat × MethodName × String) := [(R_CX, 56, y_GR_init, R_CX), (R_CX, 84, y_DG_init, R_CX), (R_CX, 13, y_PI_init, R_CX), (R_CX, 25, y_IN_init, R_CX), (R_CX, 30, y_NA_init, R_CX)]
def yOrd : MethodName := ⟨"java/lang/Enum", "ordinal", "()I"⟩
def zN0 (mi : Nat) (U : State) : Prop := (∀ q ∈ zFw, va_Fw q.1 q.2.1 q.2.2 U) ∧ (∀ q ∈ zNs, va_Nw (.methodLinkNest q.1 q.2.1 q.2.2.1 q.2.2.2) U) ∧ va_Nw (.declares yOrd) U ∧ va_AO "CellMapper$Node" U ∧ va_AO "java/lang/Object" U ∧ va_Nw (.castable R_ND "java/lang/Object") U ∧ va_Nw (.castable R_CE "java/lang/Object") U ∧ va_Dc U ∧ va_Mi "[Ljava/lang/Object;" mi U
def zSt (g : zG) (A : Nat → Prop) (U : State) (H : Heap) : Prop := va_En "CellMapper$Kind" "LCellMapper$Kind;" zKn zKF g.2.2 A U H ∧ va_Z "java/util/ArrayList" "DEFAULTCAPACITY_EMPTY_ELEMENTDATA" "[Ljava/lang/Object;" (.ref g.2.1) A U H ∧ va_T (.object "java/lang/Object") g.2.1 0 (fun _ => .null) A U H ∧ zN0 (g.1 9) U
theorem warmC {a b : String} {s U : State} (hW : s.WarmedH U.vm) (hZ : va_Nw (.castable a b) s) : va_Nw (.castable a b) U := va_tabs rfl (rfl : (s.setVm U.vm).vm = U.vm) (by rw [Cond.castable_setVm hW.alike]; exact hZ)
theorem zN0.warm {mi : Nat} {s U : State} (hW : s.WarmedH U.vm) (h : zN0 mi s) : zN0 mi U := by
  obtain ⟨h1, h2, h3, h4, h5, c1, c2, h6, h7⟩ := h
  have hx : ∀ q ∈ zFw, q.2.1.cls ≠ "java/lang/invoke/MethodHandle" ∧ q.2.1.cls ≠ "java/lang/invoke/VarHandle" := by decide +kernel
  exact ⟨fun q hq => va_Fw.moved (hx q hq) hW.alike (h1 q hq), fun q hq => va_Nw.warmM hW (h2 q hq), va_Nw.warmD hW h3, va_AO.moved hW.alike h4, va_AO.moved hW.alike h5, warmC hW c1, warmC hW c2, va_Dc.moved hW.alike h6, va_Mi.moved hW.alike h7⟩
theorem zSt.warm {g : zG} {A : Nat → Prop} {s U : State} {H : Heap} (hW : s.WarmedH U.vm) (h : zSt g A s H) : zSt g A U H := ⟨va_En.moved hW.alike h.1, va_Z.moved hW.alike h.2.1, va_T.moved hW.alike h.2.2.1, h.2.2.2.warm hW⟩
theorem zSt.kept {g : zG} {A : Nat → Prop} {U : State} {H H1 : Heap} (h : zSt g A U H) (hq : ∀ a : Nat, a < H.size → ¬ A a → H1[a]? = H[a]?) : zSt g A U H1 := ⟨h.1.kept hq, h.2.1.kept hq, h.2.2.1.kept hq, h.2.2.2⟩
theorem zSt.narrow {g : zG} {A B : Nat → Prop} {U : State} {H : Heap} (h : zSt g A U H) (hAB : ∀ q, B q → A q) : zSt g B U H := ⟨h.1.narrow hAB, h.2.1.narrow hAB, h.2.2.1.narrow hAB, h.2.2.2⟩
theorem zSt.blind {g : zG} {A : Nat → Prop} {U : State} {gg : JFrame} {mk : MethodId} {a : Array Value} (h : zSt g A U U.heap) : zSt g A (U.calling gg mk a) (U.calling gg mk a).heap := by
  have hr : U.vm.Alike (U.calling gg mk a).vm := Vm.Alike.refl U.vm
  obtain ⟨h1, h2, h3, h4, h5, c1, c2, h6, h7⟩ := h.2.2.2
  have hx : ∀ q ∈ zFw, q.2.1.cls ≠ "java/lang/invoke/MethodHandle" ∧ q.2.1.cls ≠ "java/lang/invoke/VarHandle" := by decide +kernel
  exact ⟨va_En.moved hr h.1, va_Z.moved hr h.2.1, va_T.moved hr h.2.2.1, fun q hq => va_Fw.moved (hx q hq) hr (h1 q hq), fun q hq => va_Nw.same rfl rfl (h2 q hq), va_Nw.same rfl rfl h3, va_AO.moved hr h4, va_AO.moved hr h5, va_Nw.same rfl rfl c1, va_Nw.same rfl rfl c2, va_Dc.moved hr h6, va_Mi.moved hr h7⟩
/-! contracts of CellMapper's side that make nothing -/
def zPy (D : va_G) (g : zG) (ad : zA) (σ : zS) (as : List Value) : Array Value → State → Prop := va_Pc as fun U => zP D g ad σ U.heap ∧ va_K D classes (ztys g) U ∧ zD (fun _ => True) ad σ ∧ zSt g (zAd ad σ) U U.heap
def zQr (D : va_G) (g : zG) (ad : zA) (t : Nat) (Q : Int → zS → Prop) (A : Nat → Prop) : Array Value → State → Outcome → State → Prop := va_Qq (fun r u => ∃ z, r = zro ad t z ∧ Q z u) (zB D g ad A) A
def zGi (l : Launch) (y : MethodName) (b : ByteArray) (ml : Nat) (ret : Option FieldType) (rm : Room) (D : va_G) (g : zG) (ad : zA) (σ : zS) (as : List Value) (Q : Int → zS → Prop) : Prop := Met l y (zws y b ml ret) rm (zPy D g ad σ as) (zQi D g ad Q (zAd ad σ)) 0 0 (zAd ad σ)
def zGl (l : Launch) (y : MethodName) (b : ByteArray) (ml : Nat) (ret : Option FieldType) (rm : Room) (D : va_G) (g : zG) (ad : zA) (σ : zS) (as : List Value) (Q : Int → zS → Prop) : Prop := Met l y (zws y b ml ret) rm (zPy D g ad σ as) (zQl D g ad Q (zAd ad σ)) 0 0 (zAd ad σ)
def zGv (l : Launch) (y : MethodName) (b : ByteArray) (ml : Nat) (ret : Option FieldType) (rm : Room) (D : va_G) (g : zG) (ad : zA) (σ : zS) (as : List Value) (Q : zS → Prop) : Prop := Met l y (zws y b ml ret) rm (zPy D g ad σ as) (zQv D g ad Q (zAd ad σ)) 0 0 (zAd ad σ)
def zGr (t : Nat) (l : Launch) (y : MethodName) (b : ByteArray) (ml : Nat) (ret : Option FieldType) (rm : Room) (D : va_G) (g : zG) (ad : zA) (σ : zS) (as : List Value) (Q : Int → zS → Prop) : Prop := Met l y (zws y b ml ret) rm (zPy D g ad σ as) (zQr D g ad t Q (zAd ad σ)) 0 0 (zAd ad σ)
theorem zN_of {l : Launch} {y : MethodName} {b : ByteArray} {ml : Nat} {ret : Option FieldType} {rm : Room} {D : va_G} {g : zG} {ad : zA} {σ : zS} {as : List Value} {Qc : Array Value → State → Outcome → State → Prop} (hy : plainName y.cls = true) (ha : (lg_sl as).length ≤ ml)
    (body : ∀ E : zE, zX E b y.cls D g rm ml → zRt E ret Qc 0 0 (zAd ad σ) → zSt g (zAd ad σ) (zst E) (zst E).heap → zW E (zOK D (zAd ad σ) (zst E) g ad) 0 0 0 (lv_args 0 as) [] σ) : Met l y (zws y b ml ret) rm (zPy D g ad σ as) Qc 0 0 (zAd ad σ) := by
  refine Met.ofW (cc := b) (maxL := ml) (ret := ret) hy rfl ?_
  intro p e s m args below meth c s₁ B hml hv
  obtain ⟨rfl, hP, hK, hD, hSt⟩ := hv
  have hts := atoms_spec (ws := zws y b ml ret) B.pre
  have hown : s.vm.findClass y.cls = some m.cls := findClass_of_methodNamed B.named
  have hl := lv_entry as (n := ml) ha
  rw [lg_entry_eq]
  generalize (lg_sl as ++ List.replicate (ml - (lg_sl as).length) Slot.unset).toArray = ls at hl ⊢
  exact body (p, l, e, (headSpec (zws y b ml ret) rm).room, s, m, as.toArray, below, meth, c, ml, _) ⟨⟨B.exec, B.bytes, hml, hown, fun w hw => hts w (List.mem_cons_of_mem _ hw)⟩, hK, rfl, rfl⟩ ⟨B.returns, B.notSynchronized, rfl⟩ hSt s.heap [] ls ⟨hP, ⟨hD.1, fun t ht => ⟨t, ht, rfl⟩, hD.2.2⟩, va_S.rf⟩ hl
theorem zPy_blind {D : va_G} {g : zG} {ad : zA} {σ : zS} {as : List Value} : FrameBlind (zPy D g ad σ as) := fun a U gg mk q => by
  obtain ⟨q0, qP, qK, qD, qS⟩ := q
  exact ⟨q0, qP, va_K.moved (u := U) (U := U.calling gg mk a) (Vm.Alike.refl U.vm) qK, qD, qS.blind⟩
section ZC
variable {E : zE} {pc : Nat} {L : List (Nat × Value)} {st : List Value} {σ : zS} {cc : ByteArray} {own : String} {D : va_G} {g : zG} {rm : Room} {nl : Nat} {A : Nat → Prop} {ad : zA}
theorem z_aret {Q : Int → zS → Prop} {r : Int} {t : Nat} {rt : FieldType} (C : zX E cc own D g rm nl) (R : zRt E (some rt) (zQr D g ad t Q A) 0 0 A) (hrt : (∃ n, rt = .object n) ∨ ∃ t, rt = .array t) (d : decode cc pc = .ok (.areturn, 1)) (h : Q r σ) : zW E (zOK D A (zst E) g ad) 0 0 pc L [zr ad t r] σ := by
  obtain ⟨p, l, e, R0, s, m, args, below, meth, c, nL, Z⟩ := E
  obtain ⟨⟨hx, hb, hml, hown, hts⟩, hK, hR, hN⟩ := C
  obtain ⟨hr, hlk, hZ⟩ := R
  intro H locs ls ho hl
  obtain ⟨hP, hD, hS⟩ := ho
  subst hZ
  exact W.aret (v := zr ad t r) hx hb hr hrt (by rcases zr_cases ad t r with ⟨-, e⟩ | ⟨-, e⟩ <;> rw [e] <;> simp) (fun t' ht hW => ⟨⟨zro ad t r, σ, rfl, ⟨r, rfl, h⟩, by rw [ht]; exact hP, hD⟩, hS.F ht⟩) hS.2.2 d hlk
/-- the start of a callee, out of the caller's state -/
theorem zPy_at {p : Program} {s : State} {H : Heap} {locs : List Loc} {as : List Value} (hK : va_K D classes (ztys g) s) (S : zSt g A s s.heap) (ho : zOK D A s g ad σ H locs) (U : State) (hU : U.heap = H) (hW : s.WarmedH U.vm) : zPy D g ad σ as as.toArray U :=
  ⟨rfl, by rw [hU]; exact ho.1, va_K.moved hW.alike hK, ⟨ho.2.1.1, fun _ _ => trivial, ho.2.1.2.2⟩, by rw [hU]; exact ((S.kept ho.2.2.2.1).warm hW).narrow (fun q h => zAd_sub ho.2.1 h)⟩
theorem z_runY {y : MethodName} {b : ByteArray} {ml index : Nat} {ret : Option FieldType} {rm2 : Room} {t : zT} {As : List Value} {na : Nat} {Qc : Array Value → State → Outcome → State → Prop} {p : Program} {l : Launch} {e : Env} {R : Room} {s : State} {m : MethodId} {args : Array Value} {below : List Frame} {meth : Method} {c : Code} {nL k n : Nat} {H : Heap} {locs : List Loc} {ls : Array Slot} {ci : Nat} {fs : List Value} {T : u_T} {N : Nat} {free : Addr → Prop}
    (C : CallFix p m c cc nL s args lw_g own) (hK : va_K D classes (ztys g) s) (S : zSt g A s s.heap) (hM : Met l y (zws y b ml ret) rm2 (zPy D g ad σ (.ref (ad t) :: As)) Qc 0 0 free) (hY : zY y b ml ret na) (hAs : As.length = na) (hlink : Cond.methodLink own index y ∈ lw_g) (hR : rm2.cells = 0 ∧ rm2.slots = 0 ∧ rm2.frames + 1 ≤ R.frames ∧ 8 + (ml + 11) + rm2.locals ≤ R.locals) (ht : t ∈ zids σ) (hct : ct g ad σ t = .inr (ci, fs)) (hc : classes[ci]? = some (y.cls, T, N))
    (ho : zOK D A s g ad σ H locs) (hl : ls.size = nL) (hst : (st.map fun v => v.category).sum ≤ 8) (d : decode cc pc = .ok (.invokevirtual index, 3)) (hk : k ≤ R.cells ∧ n ≤ R.slots) :
    va_Run p l e R s m args below meth c H locs k n 0 0 (F0 m pc ls (As.reverse ++ .ref (ad t) :: st)) st (Qc (Value.ref (ad t) :: As).toArray) free := by
  obtain ⟨hx, hb, hml, hown, hts⟩ := C
  obtain ⟨y1, y2, y3, y4, y5, y6, y7⟩ := hY
  obtain ⟨r1, r2, r3, r4⟩ := hR
  have hG : GoodIn lw_g (wsV own index y.cls y (zws y b ml ret)) := by
    intro w hw
    simp only [wsV, List.mem_append, List.mem_cons, List.not_mem_nil, or_false] at hw
    rcases hw with (rfl | rfl | rfl | rfl) | hw
    · exact ⟨hlink, lw_good _ hlink⟩
    · exact ⟨y1, lw_good _ y1⟩
    · exact ⟨y2, lw_good _ y2⟩
    · exact ⟨y3, lw_good _ y3⟩
    · exact zws_good y b ml ret y4 w hw
  obtain ⟨q, -, hq⟩ := gw_get (ad := ad) (ct := ct g ad σ) ht
  exact va_runV (As := As) (rest := st) ⟨hx, hb, hml, hown, hts⟩ hM (cwV na hts hG rfl r1 r2 ⟨rfl, y5, y6, y7⟩ ⟨r3, r4⟩) ⟨zPy_blind, va_recv hK ho.1 hc (hq.trans (by rw [hct])), fun U hU hW => zPy_at (p := p) hK S ho U hU hW⟩ rfl hAs hl rfl (lv_room hst) d hk
theorem z_runYs {y : MethodName} {b : ByteArray} {ml index : Nat} {ret : Option FieldType} {rm2 : Room} {As : List Value} {na : Nat} {Qc : Array Value → State → Outcome → State → Prop} {p : Program} {l : Launch} {e : Env} {R : Room} {s : State} {m : MethodId} {args : Array Value} {below : List Frame} {meth : Method} {c : Code} {nL k n : Nat} {H : Heap} {locs : List Loc} {ls : Array Slot} {free : Addr → Prop}
    (C : CallFix p m c cc nL s args lw_g own) (hK : va_K D classes (ztys g) s) (S : zSt g A s s.heap) (hM : Met l y (zws y b ml ret) rm2 (zPy D g ad σ As) Qc 0 0 free) (hY : zYs y b ml ret na) (hAs : As.length = na) (hlink : Cond.methodLink own index y ∈ lw_g) (hR : rm2.cells = 0 ∧ rm2.slots = 0 ∧ rm2.frames + 1 ≤ R.frames ∧ 8 + (ml + 11) + rm2.locals ≤ R.locals)
    (ho : zOK D A s g ad σ H locs) (hl : ls.size = nL) (hst : (st.map fun v => v.category).sum ≤ 8) (d : decode cc pc = .ok (.invokestatic index, 3)) (hk : k ≤ R.cells ∧ n ≤ R.slots) :
    va_Run p l e R s m args below meth c H locs k n 0 0 (F0 m pc ls (As.reverse ++ st)) st (Qc As.toArray) free := by
  obtain ⟨hx, hb, hml, hown, hts⟩ := C
  obtain ⟨y1, y2, y3, y4, y5, y6⟩ := hY
  obtain ⟨r1, r2, r3, r4⟩ := hR
  have hG : GoodIn lw_g (va_wsS own index y (zws y b ml ret)) := by
    intro w hw
    simp only [va_wsS, List.mem_append, List.mem_cons, List.not_mem_nil, or_false] at hw
    rcases hw with (rfl | rfl | rfl) | hw
    · exact ⟨hlink, lw_good _ hlink⟩
    · exact ⟨y1, lw_good _ y1⟩
    · exact ⟨y2, lw_good _ y2⟩
    · exact zws_good y b ml ret y3 w hw
  exact va_runS (As := As) (rest := st) ⟨hx, hb, hml, hown, hts⟩ hM (va_cwS na hts hG rfl r1 r2 ⟨y4, y5, y6⟩ ⟨r3, r4⟩) ⟨zPy_blind, fun U hU hW => zPy_at (p := p) hK S ho U hU hW⟩ rfl hAs hl rfl (lv_room hst) d hk
theorem zB_ok {A1 : Nat → Prop} {s t : State} {H1 : Heap} {locs1 : List Loc} {u : zS} (h : ∀ q, A1 q → A q) (ht : t.heap = H1) (hB : zB D g ad A1 u t) (hS1 : va_S A s.heap H1 locs1) : zOK D A s g ad u H1 locs1 := ⟨by rw [← ht]; exact hB.1, ⟨hB.2.1, fun t' ht' => h _ (hB.2.2.1 t' ht'), hB.2.2.2⟩, hS1⟩
end ZC
