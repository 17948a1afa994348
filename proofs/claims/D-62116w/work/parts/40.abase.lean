/-! methods that make cells: the address map grows -/
def zle (σ τ : zS) : Prop := σ 70 0 ≤ τ 70 0 ∧ σ 71 0 ≤ τ 71 0 ∧ σ 72 0 ≤ τ 72 0
def zAg (ad : zA) (σ : zS) (ad' : zA) : Prop := ∀ t ∈ zids σ, t.1 ≠ 2 → ad' t = ad t
def zEx (ad : zA) (σ : zS) (ad' : zA) (τ : zS) : Prop := zle σ τ ∧ zAg ad σ ad'
theorem zids_mono {σ τ : zS} (h : zle σ τ) {t : zT} (ht : t ∈ zids σ) (h2 : t.1 ≠ 2) : t ∈ zids τ := by
  obtain ⟨h70, h71, h72⟩ := h
  simp only [zids, List.mem_append, List.mem_map] at ht ⊢
  rcases ht with (((h | ⟨_, _, rfl⟩) | ⟨i, hi, rfl⟩) | ⟨i, hi, rfl⟩) | ⟨i, hi, rfl⟩
  · exact Or.inl (Or.inl (Or.inl (Or.inl h)))
  · exact absurd rfl h2
  · have := List.mem_range.mp hi
    exact Or.inl (Or.inl (Or.inr ⟨i, List.mem_range.mpr (by omega), rfl⟩))
  · have := List.mem_range.mp hi
    exact Or.inl (Or.inr ⟨i, List.mem_range.mpr (by omega), rfl⟩)
  · have := List.mem_range.mp hi
    exact Or.inr ⟨i, List.mem_range.mpr (by omega), rfl⟩
theorem zEx.rf {ad : zA} {σ : zS} : zEx ad σ ad σ := ⟨⟨Int.le_refl _, Int.le_refl _, Int.le_refl _⟩, fun _ _ _ => rfl⟩
theorem zEx.trans {ad ad1 ad2 : zA} {σ σ1 σ2 : zS} (h : zEx ad σ ad1 σ1) (h2 : zEx ad1 σ1 ad2 σ2) : zEx ad σ ad2 σ2 := by
  refine ⟨⟨Int.le_trans h.1.1 h2.1.1, Int.le_trans h.1.2.1 h2.1.2.1, Int.le_trans h.1.2.2 h2.1.2.2⟩, fun t ht h3 => ?_⟩
  rw [h2.2 t (zids_mono h.1 ht h3) h3, h.2 t ht h3]
theorem zEx.le {ad ad1 : zA} {σ σ1 σ2 : zS} (h : zEx ad σ ad1 σ1) (h2 : zle σ1 σ2) : zEx ad σ ad1 σ2 := h.trans ⟨h2, fun _ _ _ => rfl⟩
theorem zEx.up {ad ad1 : zA} {σ σ1 : zS} {k : Nat} {i v : Int} (h : zEx ad σ ad1 σ1) (h1 : 70 ≠ k) (h2 : 71 ≠ k) (h3 : 72 ≠ k) : zEx ad σ ad1 (zup σ1 k i v) :=
  h.le ⟨by rw [zup_ne σ1 i v 0 h1]; exact Int.le_refl _, by rw [zup_ne σ1 i v 0 h2]; exact Int.le_refl _, by rw [zup_ne σ1 i v 0 h3]; exact Int.le_refl _⟩
def zAx (ad : zA) (σ : zS) (sz : Nat) : Nat → Prop := fun q => (∃ t ∈ zids σ, ad t = q) ∨ sz ≤ q
abbrev zvp (σ : zS) (x : Int) : Prop := x = -1 ∨ (0 ≤ x ∧ x < σ 72 0)
theorem zr_ag {ad ad' : zA} {σ : zS} (h : zAg ad σ ad') {x : Int} (hx : zvn σ x) : zr ad' 4 x = zr ad 4 x := by
  rcases hx with rfl | ⟨h0, h1⟩
  · rw [zr_n ad 4 (by decide), zr_n ad' 4 (by decide)]
  · rw [zr_s ad 4 h0, zr_s ad' 4 h0, h _ (zids_node h0 h1) (by show (4 : Nat) ≠ 2; decide)]
theorem zr_agP {ad ad' : zA} {σ : zS} (h : zAg ad σ ad') {x : Int} (hx : zvp σ x) : zr ad' 6 x = zr ad 6 x := by
  rcases hx with rfl | ⟨h0, h1⟩
  · rw [zr_n ad 6 (by decide), zr_n ad' 6 (by decide)]
  · rw [zr_s ad 6 h0, zr_s ad' 6 h0, h _ (zids_pat h0 h1) (by show (6 : Nat) ≠ 2; decide)]
theorem zr_agC {ad ad' : zA} {σ : zS} (h : zAg ad σ ad') {x : Int} (h0 : 0 ≤ x) (h1 : x < σ 71 0) : zr ad' 5 x = zr ad 5 x := by
  rw [zr_s ad 5 h0, zr_s ad' 5 h0, h _ (zids_cell h0 h1) (by show (5 : Nat) ≠ 2; decide)]
theorem zo_ag {ad ad' : zA} {σ : zS} (h : zAg ad σ ad') {t : zT} (ht : t ∈ zfix) (h2 : t.1 ≠ 2) : ad' t = ad t := h t (zids_fix ht) h2
def zPa (D : va_G) (g : zG) (ad : zA) (σ : zS) (sz : Nat) (as : List Value) : Array Value → State → Prop := va_Pc as fun U => U.heap.size = sz ∧ zP D g ad σ U.heap ∧ va_K D classes (ztys g) U ∧ zD (fun _ => True) ad σ ∧ zSt g (zAx ad σ sz) U U.heap
def zBa (D : va_G) (g : zG) (A : Nat → Prop) (u : zS × zA) (t : State) : Prop := zP D g u.2 u.1 t.heap ∧ zD A u.2 u.1
def zJi (D : va_G) (g : zG) (ad : zA) (σ : zS) (Q : Int → zS → Prop) (A : Nat → Prop) : Array Value → State → Outcome → State → Prop := va_Qi (S := zS × zA) (fun r u => ∃ z, r = zi z ∧ Q z u.1 ∧ zEx ad σ u.2 u.1) (zBa D g A) A
def zJv (D : va_G) (g : zG) (ad : zA) (σ : zS) (Q : zS → Prop) (A : Nat → Prop) : Array Value → State → Outcome → State → Prop := va_Qv (S := zS × zA) (fun u => Q u.1 ∧ zEx ad σ u.2 u.1) (zBa D g A) A
def zJr (D : va_G) (g : zG) (ad : zA) (σ : zS) (t : Nat) (Q : Int → zS → Prop) (A : Nat → Prop) : Array Value → State → Outcome → State → Prop := va_Qq (S := zS × zA) (fun r u => ∃ z, r = zro u.2 t z ∧ Q z u.1 ∧ zEx ad σ u.2 u.1) (zBa D g A) A
def zHi (l : Launch) (y : MethodName) (b : ByteArray) (ml : Nat) (ret : Option FieldType) (rm : Room) (D : va_G) (g : zG) (ad : zA) (σ : zS) (as : List Value) (Q : Int → zS → Prop) (sz mc ms : Nat) : Prop := Met l y (zws y b ml ret) rm (zPa D g ad σ sz as) (zJi D g ad σ Q (zAx ad σ sz)) mc ms (zAx ad σ sz)
def zHv (l : Launch) (y : MethodName) (b : ByteArray) (ml : Nat) (ret : Option FieldType) (rm : Room) (D : va_G) (g : zG) (ad : zA) (σ : zS) (as : List Value) (Q : zS → Prop) (sz mc ms : Nat) : Prop := Met l y (zws y b ml ret) rm (zPa D g ad σ sz as) (zJv D g ad σ Q (zAx ad σ sz)) mc ms (zAx ad σ sz)
def zHr (t : Nat) (l : Launch) (y : MethodName) (b : ByteArray) (ml : Nat) (ret : Option FieldType) (rm : Room) (D : va_G) (g : zG) (ad : zA) (σ : zS) (as : List Value) (Q : Int → zS → Prop) (sz mc ms : Nat) : Prop := Met l y (zws y b ml ret) rm (zPa D g ad σ sz as) (zJr D g ad σ t Q (zAx ad σ sz)) mc ms (zAx ad σ sz)
theorem zA_of {l : Launch} {y : MethodName} {b : ByteArray} {ml : Nat} {ret : Option FieldType} {rm : Room} {D : va_G} {g : zG} {ad : zA} {σ : zS} {as : List Value} {sz mc ms : Nat} {Qc : Array Value → State → Outcome → State → Prop} (hy : plainName y.cls = true) (ha : (lg_sl as).length ≤ ml)
    (body : ∀ E : zE, zX E b y.cls D g rm ml → zRt E ret Qc mc ms (zAx ad σ sz) → zSt g (zAx ad σ sz) (zst E) (zst E).heap → (∀ q, (zst E).heap.size ≤ q → zAx ad σ sz q) → zW E (zOK D (zAx ad σ sz) (zst E) g ad) 0 0 0 (lv_args 0 as) [] σ) : Met l y (zws y b ml ret) rm (zPa D g ad σ sz as) Qc mc ms (zAx ad σ sz) := by
  refine Met.ofW (cc := b) (maxL := ml) (ret := ret) hy rfl ?_
  intro p e s m args below meth c s₁ B hml hv
  obtain ⟨rfl, hsz, hP, hK, hD, hSt⟩ := hv
  have hts := atoms_spec (ws := zws y b ml ret) B.pre
  have hown : s.vm.findClass y.cls = some m.cls := findClass_of_methodNamed B.named
  have hl := lv_entry as (n := ml) ha
  rw [lg_entry_eq]
  generalize (lg_sl as ++ List.replicate (ml - (lg_sl as).length) Slot.unset).toArray = ls at hl ⊢
  exact body (p, l, e, (headSpec (zws y b ml ret) rm).room, s, m, as.toArray, below, meth, c, ml, _) ⟨⟨B.exec, B.bytes, hml, hown, fun w hw => hts w (List.mem_cons_of_mem _ hw)⟩, hK, rfl, rfl⟩ ⟨B.returns, B.notSynchronized, rfl⟩ hSt (fun q hq => Or.inr (by rw [← hsz]; exact hq)) s.heap [] ls ⟨hP, ⟨hD.1, fun t ht => Or.inl ⟨t, ht, rfl⟩, hD.2.2⟩, va_S.rf⟩ hl
/-- a constructor that makes nothing -/
theorem zC_of {l : Launch} {y : MethodName} {b : ByteArray} {ml : Nat} {rm : Room} {D : va_G} {g : zG} {ad : zA} {σ : zS} {as : List Value} {Qc : Array Value → State → Outcome → State → Prop} (hy : plainName y.cls = true) (hi : y.name = "<init>") (ha : (lg_sl as).length ≤ ml)
    (body : ∀ E : zE, zX E b y.cls D g rm ml → zRt E none Qc 0 0 (zAd ad σ) → zSt g (zAd ad σ) (zst E) (zst E).heap → E.2.2.2.2.2.2.2.2.1.name = "<init>" → zW E (zOK D (zAd ad σ) (zst E) g ad) 0 0 0 (lv_args 0 as) [] σ) : Met l y (zws y b ml none) rm (zPy D g ad σ as) Qc 0 0 (zAd ad σ) := by
  refine Met.ofW (cc := b) (maxL := ml) (ret := none) hy rfl ?_
  intro p e s m args below meth c s₁ B hml hv
  obtain ⟨rfl, hP, hK, hD, hSt⟩ := hv
  have hts := atoms_spec (ws := zws y b ml none) B.pre
  have hown : s.vm.findClass y.cls = some m.cls := findClass_of_methodNamed B.named
  have hin : meth.name = "<init>" := (name_of_methodNamed B.named B.method).1.trans hi
  have hl := lv_entry as (n := ml) ha
  rw [lg_entry_eq]
  generalize (lg_sl as ++ List.replicate (ml - (lg_sl as).length) Slot.unset).toArray = ls at hl ⊢
  exact body (p, l, e, (headSpec (zws y b ml none) rm).room, s, m, as.toArray, below, meth, c, ml, _) ⟨⟨B.exec, B.bytes, hml, hown, fun w hw => hts w (List.mem_cons_of_mem _ hw)⟩, hK, rfl, rfl⟩ ⟨B.returns, B.notSynchronized, rfl⟩ hSt hin s.heap [] ls ⟨hP, ⟨hD.1, fun t ht => ⟨t, ht, rfl⟩, hD.2.2⟩, va_S.rf⟩ hl
theorem zPa_blind {D : va_G} {g : zG} {ad : zA} {σ : zS} {sz : Nat} {as : List Value} : FrameBlind (zPa D g ad σ sz as) := fun a U gg mk q => by
  obtain ⟨q0, qz, qP, qK, qD, qS⟩ := q
  exact ⟨q0, qz, qP, va_K.moved (u := U) (U := U.calling gg mk a) (Vm.Alike.refl U.vm) qK, qD, qS.blind⟩
section ZE
variable {E : zE} {pc k n : Nat} {L : List (Nat × Value)} {st : List Value} {σ σ0 : zS} {cc : ByteArray} {own : String} {D : va_G} {g : zG} {rm : Room} {nl mc ms : Nat} {A : Nat → Prop} {ad ad0 : zA}
theorem za_iret {Q : Int → zS → Prop} {r : Int} (C : zX E cc own D g rm nl) (R : zRt E (some .int) (zJi D g ad0 σ0 Q A) mc ms A) (hX : zEx ad0 σ0 ad σ) (d : decode cc pc = .ok (.ireturn, 1)) (h : Q r σ) : zW E (zOK D A (zst E) g ad) mc ms pc L [.int (zi r)] σ := by
  obtain ⟨p, l, e, R0, s, m, args, below, meth, c, nL, Z⟩ := E
  obtain ⟨⟨hx, hb, hml, hown, hts⟩, hK, hR, hN⟩ := C
  obtain ⟨hr, hlk, hZ⟩ := R
  intro H locs ls ho hl
  obtain ⟨hP, hD, hS⟩ := ho
  subst hZ
  exact W.iret (v := zi r) hx hb hr (fun t ht hW => ⟨⟨zi r, (σ, ad), rfl, ⟨r, rfl, h, hX⟩, by rw [ht]; exact hP, hD⟩, hS.F ht⟩) hS.2.2 d hlk
theorem za_zret {Q : Int → zS → Prop} {r : Int} (C : zX E cc own D g rm nl) (R : zRt E (some .boolean) (zJi D g ad0 σ0 Q A) mc ms A) (hX : zEx ad0 σ0 ad σ) (d : decode cc pc = .ok (.ireturn, 1)) (hz : r = 0 ∨ r = 1) (h : Q r σ) : zW E (zOK D A (zst E) g ad) mc ms pc L [.int (zi r)] σ := by
  obtain ⟨p, l, e, R0, s, m, args, below, meth, c, nL, Z⟩ := E
  obtain ⟨⟨hx, hb, hml, hown, hts⟩, hK, hR, hN⟩ := C
  obtain ⟨hr, hlk, hZ⟩ := R
  intro H locs ls ho hl
  obtain ⟨hP, hD, hS⟩ := ho
  subst hZ
  exact W.zret (v := zi r) hx hb hr (by rcases hz with rfl | rfl <;> decide) (fun t ht hW => ⟨⟨zi r, (σ, ad), rfl, ⟨r, rfl, h, hX⟩, by rw [ht]; exact hP, hD⟩, hS.F ht⟩) hS.2.2 d hlk
theorem za_vret {Q : zS → Prop} (C : zX E cc own D g rm nl) (R : zRt E none (zJv D g ad0 σ0 Q A) mc ms A) (hX : zEx ad0 σ0 ad σ) (d : decode cc pc = .ok (.return_, 1)) (h : Q σ) : zW E (zOK D A (zst E) g ad) mc ms pc L [] σ := by
  obtain ⟨p, l, e, R0, s, m, args, below, meth, c, nL, Z⟩ := E
  obtain ⟨⟨hx, hb, hml, hown, hts⟩, hK, hR, hN⟩ := C
  obtain ⟨hr, hlk, hZ⟩ := R
  intro H locs ls ho hl
  obtain ⟨hP, hD, hS⟩ := ho
  subst hZ
  exact W.vret hx hb hr (fun t ht hW => ⟨⟨(σ, ad), rfl, ⟨h, hX⟩, by rw [ht]; exact hP, hD⟩, hS.F ht⟩) hS.2.2 d hlk
theorem za_aret {Q : Int → zS → Prop} {r : Int} {t : Nat} {rt : FieldType} (C : zX E cc own D g rm nl) (R : zRt E (some rt) (zJr D g ad0 σ0 t Q A) mc ms A) (hX : zEx ad0 σ0 ad σ) (hrt : (∃ n, rt = .object n) ∨ ∃ t, rt = .array t) (d : decode cc pc = .ok (.areturn, 1)) (h : Q r σ) : zW E (zOK D A (zst E) g ad) mc ms pc L [zr ad t r] σ := by
  obtain ⟨p, l, e, R0, s, m, args, below, meth, c, nL, Z⟩ := E
  obtain ⟨⟨hx, hb, hml, hown, hts⟩, hK, hR, hN⟩ := C
  obtain ⟨hr, hlk, hZ⟩ := R
  intro H locs ls ho hl
  obtain ⟨hP, hD, hS⟩ := ho
  subst hZ
  exact W.aret (v := zr ad t r) hx hb hr hrt (by rcases zr_cases ad t r with ⟨-, e⟩ | ⟨-, e⟩ <;> rw [e] <;> simp) (fun t' ht hW => ⟨⟨zro ad t r, (σ, ad), rfl, ⟨r, rfl, h, hX⟩, by rw [ht]; exact hP, hD⟩, hS.F ht⟩) hS.2.2 d hlk
theorem zAx_sub {H : Heap} {s : State} {q : Nat} {locs : List Loc} (hA : ∀ q, s.heap.size ≤ q → A q) (ho : zOK D A s g ad σ H locs) (h : zAx ad σ H.size q) : A q := by
  rcases h with ⟨t, ht, rfl⟩ | h
  · exact ho.2.1.2.1 t ht
  · exact hA q (Nat.le_trans ho.2.2.1 h)
theorem zPa_at {s : State} {H : Heap} {locs : List Loc} {as : List Value} (hK : va_K D classes (ztys g) s) (S : zSt g A s s.heap) (hA : ∀ q, s.heap.size ≤ q → A q) (ho : zOK D A s g ad σ H locs) (U : State) (hU : U.heap = H) (hW : s.WarmedH U.vm) : zPa D g ad σ H.size as as.toArray U :=
  ⟨rfl, by rw [hU], by rw [hU]; exact ho.1, va_K.moved hW.alike hK, ⟨ho.2.1.1, fun _ _ => trivial, ho.2.1.2.2⟩, by rw [hU]; exact ((S.kept ho.2.2.2.1).warm hW).narrow (fun q h => zAx_sub hA ho h)⟩
theorem z_runA {y : MethodName} {b : ByteArray} {ml index : Nat} {ret : Option FieldType} {rm2 : Room} {t : zT} {As : List Value} {na : Nat} {Qc : Array Value → State → Outcome → State → Prop} {p : Program} {l : Launch} {e : Env} {R : Room} {s : State} {m : MethodId} {args : Array Value} {below : List Frame} {meth : Method} {c : Code} {nL : Nat} {H : Heap} {locs : List Loc} {ls : Array Slot} {ci : Nat} {fs : List Value} {T : u_T} {N : Nat} {free : Addr → Prop}
    (C : CallFix p m c cc nL s args lw_g own) (hK : va_K D classes (ztys g) s) (S : zSt g A s s.heap) (hA : ∀ q, s.heap.size ≤ q → A q) (hM : Met l y (zws y b ml ret) rm2 (zPa D g ad σ H.size (.ref (ad t) :: As)) Qc mc ms free) (hY : zY y b ml ret na) (hAs : As.length = na) (hlink : Cond.methodLink own index y ∈ lw_g) (hR : rm2.cells = mc ∧ rm2.slots = ms ∧ rm2.frames + 1 ≤ R.frames ∧ 8 + (ml + 11) + rm2.locals ≤ R.locals) (ht : t ∈ zids σ) (hct : ct g ad σ t = .inr (ci, fs)) (hc : classes[ci]? = some (y.cls, T, N))
    (ho : zOK D A s g ad σ H locs) (hl : ls.size = nL) (hst : (st.map fun v => v.category).sum ≤ 8) (d : decode cc pc = .ok (.invokevirtual index, 3)) (hk : k + mc ≤ R.cells ∧ n + ms ≤ R.slots) :
    va_Run p l e R s m args below meth c H locs k n mc ms (F0 m pc ls (As.reverse ++ .ref (ad t) :: st)) st (Qc (Value.ref (ad t) :: As).toArray) free := by
  obtain ⟨hx, hb, hml, hown, hts⟩ := C
  obtain ⟨y1, y2, y3, y4, y5, y6, y7⟩ := hY
  obtain ⟨r1, r2, r3, r4⟩ := hR
  have hG : GoodIn lw_g (wsV own index y.cls y (zws y b ml ret)) := by
    intro w hw
    simp only [wsV, List.mem_append, List.mem_cons, List.not_mem_nil, or_false] at hw
    rcases hw with (rfl | rfl | rfl | rfl) | hw
    · exact ⟨hlink, lw_good _ hlink⟩
    · exact ⟨y1, lw_good _ y1⟩
    · exact ⟨y2, lw_good _ y2⟩
    · exact ⟨y3, lw_good _ y3⟩
    · exact zws_good y b ml ret y4 w hw
  obtain ⟨q, -, hq⟩ := gw_get (ad := ad) (ct := ct g ad σ) ht
  exact va_runV (As := As) (rest := st) ⟨hx, hb, hml, hown, hts⟩ hM (cwV na hts hG rfl r1 r2 ⟨rfl, y5, y6, y7⟩ ⟨r3, r4⟩) ⟨zPa_blind, va_recv hK ho.1 hc (hq.trans (by rw [hct])), fun U hU hW => zPa_at hK S hA ho U hU hW⟩ rfl hAs hl rfl (lv_room hst) d hk
theorem z_runAs {y : MethodName} {b : ByteArray} {ml index : Nat} {ret : Option FieldType} {rm2 : Room} {As : List Value} {na : Nat} {Qc : Array Value → State → Outcome → State → Prop} {p : Program} {l : Launch} {e : Env} {R : Room} {s : State} {m : MethodId} {args : Array Value} {below : List Frame} {meth : Method} {c : Code} {nL : Nat} {H : Heap} {locs : List Loc} {ls : Array Slot} {free : Addr → Prop}
    (C : CallFix p m c cc nL s args lw_g own) (hK : va_K D classes (ztys g) s) (S : zSt g A s s.heap) (hA : ∀ q, s.heap.size ≤ q → A q) (hM : Met l y (zws y b ml ret) rm2 (zPa D g ad σ H.size As) Qc mc ms free) (hY : zYs y b ml ret na) (hAs : As.length = na) (hlink : Cond.methodLink own index y ∈ lw_g) (hR : rm2.cells = mc ∧ rm2.slots = ms ∧ rm2.frames + 1 ≤ R.frames ∧ 8 + (ml + 11) + rm2.locals ≤ R.locals)
    (ho : zOK D A s g ad σ H locs) (hl : ls.size = nL) (hst : (st.map fun v => v.category).sum ≤ 8) (d : decode cc pc = .ok (.invokestatic index, 3)) (hk : k + mc ≤ R.cells ∧ n + ms ≤ R.slots) :
    va_Run p l e R s m args below meth c H locs k n mc ms (F0 m pc ls (As.reverse ++ st)) st (Qc As.toArray) free := by
  obtain ⟨hx, hb, hml, hown, hts⟩ := C
  obtain ⟨y1, y2, y3, y4, y5, y6⟩ := hY
  obtain ⟨r1, r2, r3, r4⟩ := hR
  have hG : GoodIn lw_g (va_wsS own index y (zws y b ml ret)) := by
    intro w hw
    simp only [va_wsS, List.mem_append, List.mem_cons, List.not_mem_nil, or_false] at hw
    rcases hw with (rfl | rfl | rfl) | hw
    · exact ⟨hlink, lw_good _ hlink⟩
    · exact ⟨y1, lw_good _ y1⟩
    · exact ⟨y2, lw_good _ y2⟩
    · exact zws_good y b ml ret y3 w hw
  exact va_runS (As := As) (rest := st) ⟨hx, hb, hml, hown, hts⟩ hM (va_cwS na hts hG rfl r1 r2 ⟨y4, y5, y6⟩ ⟨r3, r4⟩) ⟨zPa_blind, fun U hU hW => zPa_at hK S hA ho U hU hW⟩ rfl hAs hl rfl (lv_room hst) d hk
theorem zBa_ok {A1 : Nat → Prop} {s t : State} {H1 : Heap} {locs1 : List Loc} {u : zS × zA} (h : ∀ q, A1 q → A q) (ht : t.heap = H1) (hB : zBa D g A1 u t) (hS1 : va_S A s.heap H1 locs1) : zOK D A s g u.2 u.1 H1 locs1 := ⟨by rw [← ht]; exact hB.1, ⟨hB.2.1, fun t' ht' => h _ (hB.2.2.1 t' ht'), hB.2.2.2⟩, hS1⟩
end ZE
