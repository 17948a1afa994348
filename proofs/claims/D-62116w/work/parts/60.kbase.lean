/-! constructors: the world is a list that is written out -/
def kOK (D : va_G) (A : Nat → Prop) (s : State) (ws : va_W) : zS → Heap → List Loc → Prop := fun _ H locs => va_P D classes ws H ∧ va_D A ws ∧ va_S A s.heap H locs
def zPk (D : va_G) (g : zG) (ws : va_W) (sz : Nat) (as : List Value) : Array Value → State → Prop := va_Pc as fun U => U.heap.size = sz ∧ va_P D classes ws U.heap ∧ va_K D classes (ztys g) U ∧ va_D (fun _ => True) ws ∧ zSt g (va_A ws sz) U U.heap
def zQk (D : va_G) (Q : va_W → Prop) (A : Nat → Prop) : Array Value → State → Outcome → State → Prop := va_Qv (S := va_W) Q (fun u t => va_P D classes u t.heap ∧ va_D A u) A
def zKv (l : Launch) (y : MethodName) (b : ByteArray) (ml : Nat) (rm : Room) (D : va_G) (g : zG) (ws : va_W) (as : List Value) (Q : va_W → Prop) (sz mc ms : Nat) : Prop := Met l y (zws y b ml none) rm (zPk D g ws sz as) (zQk D Q (va_A ws sz)) mc ms (va_A ws sz)
theorem zPk_blind {D : va_G} {g : zG} {ws : va_W} {sz : Nat} {as : List Value} : FrameBlind (zPk D g ws sz as) := fun a U gg mk q => by
  obtain ⟨q0, qz, qP, qK, qD, qS⟩ := q
  exact ⟨q0, qz, qP, va_K.moved (u := U) (U := U.calling gg mk a) (Vm.Alike.refl U.vm) qK, qD, qS.blind⟩
theorem zK_of {l : Launch} {y : MethodName} {b : ByteArray} {ml : Nat} {rm : Room} {D : va_G} {g : zG} {ws : va_W} {as : List Value} {sz mc ms : Nat} {Qc : Array Value → State → Outcome → State → Prop} (hy : plainName y.cls = true) (hi : y.name = "<init>") (ha : (lg_sl as).length ≤ ml)
    (body : ∀ E : zE, zX E b y.cls D g rm ml → zRt E none Qc mc ms (va_A ws sz) → zSt g (va_A ws sz) (zst E) (zst E).heap → (∀ q, (zst E).heap.size ≤ q → va_A ws sz q) → E.2.2.2.2.2.2.2.2.1.name = "<init>" → ∀ σ, zW E (kOK D (va_A ws sz) (zst E) ws) 0 0 0 (lv_args 0 as) [] σ) : Met l y (zws y b ml none) rm (zPk D g ws sz as) Qc mc ms (va_A ws sz) := by
  refine Met.ofW (cc := b) (maxL := ml) (ret := none) hy rfl ?_
  intro p e s m args below meth c s₁ B hml hv
  obtain ⟨rfl, hsz, hP, hK, hD, hSt⟩ := hv
  have hts := atoms_spec (ws := zws y b ml none) B.pre
  have hown : s.vm.findClass y.cls = some m.cls := findClass_of_methodNamed B.named
  have hin : meth.name = "<init>" := (name_of_methodNamed B.named B.method).1.trans hi
  have hl := lv_entry as (n := ml) ha
  rw [lg_entry_eq]
  generalize (lg_sl as ++ List.replicate (ml - (lg_sl as).length) Slot.unset).toArray = ls at hl ⊢
  exact body (p, l, e, (headSpec (zws y b ml none) rm).room, s, m, as.toArray, below, meth, c, ml, _) ⟨⟨B.exec, B.bytes, hml, hown, fun w hw => hts w (List.mem_cons_of_mem _ hw)⟩, hK, rfl, rfl⟩ ⟨B.returns, B.notSynchronized, rfl⟩ hSt (fun q hq => Or.inr (by rw [← hsz]; exact hq)) hin (fun _ _ => 0) s.heap [] ls ⟨hP, hD.self, va_S.rf⟩ hl
theorem kget {ws : va_W} {a : Nat} {e : va_E} (pre post : va_W) (h : ws = pre ++ (a, e) :: post) : ws[pre.length]? = some (a, e) := by
  rw [h, List.getElem?_append_right (Nat.le_refl _), Nat.sub_self]
  rfl
theorem kset {a : Nat} {e e' : va_E} (pre post : va_W) : (pre ++ (a, e) :: post).set pre.length (a, e') = pre ++ (a, e') :: post := by
  rw [List.set_append_right _ _ (Nat.le_refl _), Nat.sub_self]
  rfl
section ZK
variable {E : zE} {k n pc : Nat} {L L' : List (Nat × Value)} {st : List Value} {σ : zS} {cc : ByteArray} {own : String} {D : va_G} {g : zG} {rm : Room} {nl : Nat} {A : Nat → Prop} {a : Nat} {pre post : va_W}
theorem k_vret {Q : va_W → Prop} {ws : va_W} {mc ms : Nat} (C : zX E cc own D g rm nl) (R : zRt E none (zQk D Q A) mc ms A) (d : decode cc pc = .ok (.return_, 1)) (h : Q ws) : zW E (kOK D A (zst E) ws) mc ms pc L [] σ := by
  obtain ⟨p, l, e, R0, s, m, args, below, meth, c, nL, Z⟩ := E
  obtain ⟨⟨hx, hb, hml, hown, hts⟩, hK, hR, hN⟩ := C
  obtain ⟨hr, hlk, hZ⟩ := R
  intro H locs ls ho hl
  obtain ⟨hP, hD, hS⟩ := ho
  subst hZ
  exact W.vret hx hb hr (fun t ht hW => ⟨⟨ws, rfl, h, by rw [ht]; exact hP, hD⟩, hS.F ht⟩) hS.2.2 d hlk
theorem k_get {ci j N index : Nat} {fs : List Value} {Cn ref : String} {T : u_T} {v : Value} (C : zX E cc own D g rm nl) (hc : classes[ci]? = some (Cn, T, N)) (hin : ∀ w ∈ u_ws Cn T N, w ∈ lw_g) (hj : j < N) (hd : (T j).1 = ref) (hlink : Cond.fieldLink own index ref (T j).2.1 (T j).2.2.1 ∈ lw_g) (hv : fs[j]? = some v) (d : decode cc pc = .ok (.getfield index, 3))
    (kk : zW E (kOK D A (zst E) (pre ++ (a, .inr (ci, fs)) :: post)) k n (pc + 3) L (v :: st) σ) : zW E (kOK D A (zst E) (pre ++ (a, .inr (ci, fs)) :: post)) k n pc L (.ref a :: st) σ := by
  obtain ⟨p, l, e, R, s, m, args, below, meth, c, nL, Z⟩ := E
  obtain ⟨⟨hx, hb, hml, hown, hts⟩, hK, hR, hN⟩ := C
  intro H locs ls ho hl
  obtain ⟨hP, hD, hS⟩ := ho
  exact va_get hx hb hts hin hown hK hP pre.length (kget pre post rfl) hc j hj (hts _ hlink) (fun _ h9 => by rw [hd] at h9; exact h9) hv d (kk H locs ls ⟨hP, hD, hS⟩ hl)
theorem k_put {ci j N index : Nat} {fs fs' : List Value} {Cn ref : String} {T : u_T} {v : Value} {ty : Nat → FieldType} (C : zX E cc own D g rm nl) (hc : classes[ci]? = some (Cn, T, N)) (hin : ∀ w ∈ u_ws Cn T N, w ∈ lw_g) (hty : ∀ k, k < N → parseFieldDescriptor (T k).2.2.1 = some (ty k)) (hnm : ∀ a, a < N → ∀ b, b < N → a ≠ b → (T a).2.1 ≠ (T b).2.1) (hj : j < N) (hd : (T j).1 = ref) (hlink : Cond.fieldLink own index ref (T j).2.1 (T j).2.2.1 ∈ lw_g) (hfin : (T j).2.2.2 = false) (hn : narrow (ty j) v = v ∧ fits (ty j) v = true) (hl0 : j < fs.length) (hfs : fs.set j v = fs') (d : decode cc pc = .ok (.putfield index, 3))
    (kk : zW E (kOK D A (zst E) (pre ++ (a, .inr (ci, fs')) :: post)) k n (pc + 3) L st σ) : zW E (kOK D A (zst E) (pre ++ (a, .inr (ci, fs)) :: post)) k n pc L (v :: .ref a :: st) σ := by
  obtain ⟨p, l, e, R, s, m, args, below, meth, c, nL, Z⟩ := E
  obtain ⟨⟨hx, hb, hml, hown, hts⟩, hK, hR, hN⟩ := C
  intro H locs ls ho hl
  obtain ⟨hP, hD, hS⟩ := ho
  refine va_put hx hb hts hin ty hty hnm hown hK hP hD hS pre.length (kget pre post rfl) hc j hj (hts _ hlink) (fun _ h9 => by rw [hd] at h9; exact h9) hfin (hty j hj) hn.1 hn.2 hl0 d (fun H1 locs1 hP1 hD1 hS1 => ?_)
  rw [kset, hfs] at hP1 hD1
  exact kk H1 locs1 ls ⟨hP1, hD1, hS1⟩ hl
theorem k_putF {ci j N index : Nat} {fs fs' : List Value} {Cn : String} {T : u_T} {v : Value} {ty : Nat → FieldType} (C : zX E cc own D g rm nl) (hin2 : E.2.2.2.2.2.2.2.2.1.name = "<init>") (hc : classes[ci]? = some (Cn, T, N)) (hin : ∀ w ∈ u_ws Cn T N, w ∈ lw_g) (hty : ∀ k, k < N → parseFieldDescriptor (T k).2.2.1 = some (ty k)) (hnm : ∀ a, a < N → ∀ b, b < N → a ≠ b → (T a).2.1 ≠ (T b).2.1) (hj : j < N) (hd : (T j).1 = own) (hlink : Cond.fieldLink own index own (T j).2.1 (T j).2.2.1 ∈ lw_g) (hfin : (T j).2.2.2 = true) (hn : narrow (ty j) v = v ∧ fits (ty j) v = true) (hl0 : j < fs.length) (hfs : fs.set j v = fs') (d : decode cc pc = .ok (.putfield index, 3))
    (kk : zW E (kOK D A (zst E) (pre ++ (a, .inr (ci, fs')) :: post)) k n (pc + 3) L st σ) : zW E (kOK D A (zst E) (pre ++ (a, .inr (ci, fs)) :: post)) k n pc L (v :: .ref a :: st) σ := by
  obtain ⟨p, l, e, R, s, m, args, below, meth, c, nL, Z⟩ := E
  obtain ⟨⟨hx, hb, hml, hown, hts⟩, hK, hR, hN⟩ := C
  intro H locs ls ho hl
  obtain ⟨hP, hD, hS⟩ := ho
  refine va_putF hx hb hts hin ty hty hnm hown hK hP hD hS pre.length (kget pre post rfl) hc j hj (hts _ hlink) (fun _ h9 => by rw [hd] at h9; exact h9) hfin hin2 hd (hty j hj) hn.1 hn.2 hl0 d (fun H1 locs1 hP1 hD1 hS1 => ?_)
  rw [kset, hfs] at hP1 hD1
  exact kk H1 locs1 ls ⟨hP1, hD1, hS1⟩ hl
theorem k_new {index ci N : Nat} {Cn : String} {T : u_T} {ws : va_W} {fs : List Value} (ty : Nat → FieldType) (C : zX E cc own D g rm nl) (hA : ∀ q, (zst E).heap.size ≤ q → A q) (hc : classes[ci]? = some (Cn, T, N)) (hin : ∀ w ∈ u_ws Cn T N, w ∈ lw_g) (hty : ∀ k, k < N → parseFieldDescriptor (T k).2.2.1 = some (ty k)) (hcl : Cond.classLink own index Cn ∈ lw_g) (hinst : Cond.instantiable Cn N ∈ lw_g) (hini : Cond.initialized Cn ∈ lw_g) (hfs : ∀ j, j < N → defaultValue (ty j) = vp_V fs j) (hkn : k + 1 ≤ rm.cells ∧ n + N ≤ rm.slots) (d : decode cc pc = .ok (.new index, 3))
    (kk : ∀ q : Nat, zW E (kOK D A (zst E) (ws ++ [(q, .inr (ci, fs))])) (k + 1) (n + N) (pc + 3) L (.ref q :: st) σ) : zW E (kOK D A (zst E) ws) k n pc L st σ := by
  obtain ⟨p, l, e, R, s, m, args, below, meth, c, nL, Z⟩ := E
  obtain ⟨⟨hx, hb, hml, hown, hts⟩, hK, hR, hN⟩ := C
  subst hR
  intro H locs ls ho hl
  obtain ⟨hP, hD, hS⟩ := ho
  exact va_new hx hb hts hin ty hty hown (hts _ hcl) (hts _ hinst) (hts _ hini) hK hP hD hS hA hc hfs hkn.1 hkn.2 d (fun q H1 hP1 hD1 hS1 => kk q H1 locs ls ⟨hP1, hD1, hS1⟩ hl)
/-- an array of numbers: t its kind (0 int, 1 boolean, 2 long) -/
def kAr (g : zG) (t N : Nat) : va_E := match t with
  | 0 => .inl (g.1 0, N, .inl fun _ => 0)
  | 1 => .inl (g.1 1, N, .inl fun _ => 0)
  | 2 => .inl (g.1 2, N, .inr (.inl fun _ => 0))
  | _ => .inl (g.1 4, N, .inr (.inr (.inr (.inr fun _ => none))))
theorem k_newI {x : Int} {N : Nat} (C : zX E cc own D g rm nl) (hA : ∀ q, (zst E).heap.size ≤ q → A q) (h0 : 0 ≤ x) (h1 : x ≤ 5000) (hx : x.toNat = N) (hkn : k + 1 ≤ rm.cells ∧ n + N ≤ rm.slots) (d : decode cc pc = .ok (.newarray .int, 2))
    {ws : va_W} (kk : ∀ q : Nat, zW E (kOK D A (zst E) (ws ++ [(q, kAr g 0 N)])) (k + 1) (n + N) (pc + 2) L (.ref q :: st) σ) : zW E (kOK D A (zst E) ws) k n pc L (.int (zi x) :: st) σ := by
  obtain ⟨p, l, e, R, s, m, args, below, meth, c, nL, Z⟩ := E
  obtain ⟨⟨hx0, hb, hml, hown, hts⟩, hK, hR, hN⟩ := C
  subst hR
  subst hx
  intro H locs ls ho hl
  obtain ⟨hP, hD, hS⟩ := ho
  refine va_newa (atype := .int) (ty := .int) (N' := x.toNat) (a0 := (x.toNat, .inl fun _ => 0)) hx0 hb (hts _ wd_140) rfl hK hP hD hS hA (fun _ => rfl) (by rw [← zi_0, zi_lt (by omega) (by decide)]; omega) (zi_cl h0 (by omega)) (by show _ * 4 ≤ _; omega) hkn.1 hkn.2 d (fun q cA H1 hK1 hP1 hD1 hS1 => ?_)
  have e1 : cA = g.1 0 := Option.some.inj ((hK1.2 5 (cA, .int) rfl).2.symm.trans (hK.2 0 (g.1 0, .int) rfl).2)
  subst e1
  exact kk q H1 locs ls ⟨hP1, hD1, hS1⟩ hl
theorem k_newZ {x : Int} {N : Nat} (C : zX E cc own D g rm nl) (hA : ∀ q, (zst E).heap.size ≤ q → A q) (h0 : 0 ≤ x) (h1 : x ≤ 5000) (hx : x.toNat = N) (hkn : k + 1 ≤ rm.cells ∧ n + N ≤ rm.slots) (d : decode cc pc = .ok (.newarray .boolean, 2))
    {ws : va_W} (kk : ∀ q : Nat, zW E (kOK D A (zst E) (ws ++ [(q, kAr g 1 N)])) (k + 1) (n + N) (pc + 2) L (.ref q :: st) σ) : zW E (kOK D A (zst E) ws) k n pc L (.int (zi x) :: st) σ := by
  obtain ⟨p, l, e, R, s, m, args, below, meth, c, nL, Z⟩ := E
  obtain ⟨⟨hx0, hb, hml, hown, hts⟩, hK, hR, hN⟩ := C
  subst hR
  subst hx
  intro H locs ls ho hl
  obtain ⟨hP, hD, hS⟩ := ho
  refine va_newa (atype := .boolean) (ty := .boolean) (N' := x.toNat) (a0 := (x.toNat, .inl fun _ => 0)) hx0 hb (hts _ wd_858) rfl hK hP hD hS hA (fun _ => rfl) (by rw [← zi_0, zi_lt (by omega) (by decide)]; omega) (zi_cl h0 (by omega)) (by show _ * 1 ≤ _; omega) hkn.1 hkn.2 d (fun q cA H1 hK1 hP1 hD1 hS1 => ?_)
  have e1 : cA = g.1 1 := Option.some.inj ((hK1.2 5 (cA, .boolean) rfl).2.symm.trans (hK.2 1 (g.1 1, .boolean) rfl).2)
  subst e1
  exact kk q H1 locs ls ⟨hP1, hD1, hS1⟩ hl
theorem k_newJ {x : Int} {N : Nat} (C : zX E cc own D g rm nl) (hA : ∀ q, (zst E).heap.size ≤ q → A q) (h0 : 0 ≤ x) (h1 : x ≤ 5000) (hx : x.toNat = N) (hkn : k + 1 ≤ rm.cells ∧ n + N ≤ rm.slots) (d : decode cc pc = .ok (.newarray .long, 2))
    {ws : va_W} (kk : ∀ q : Nat, zW E (kOK D A (zst E) (ws ++ [(q, kAr g 2 N)])) (k + 1) (n + N) (pc + 2) L (.ref q :: st) σ) : zW E (kOK D A (zst E) ws) k n pc L (.int (zi x) :: st) σ := by
  obtain ⟨p, l, e, R, s, m, args, below, meth, c, nL, Z⟩ := E
  obtain ⟨⟨hx0, hb, hml, hown, hts⟩, hK, hR, hN⟩ := C
  subst hR
  subst hx
  intro H locs ls ho hl
  obtain ⟨hP, hD, hS⟩ := ho
  refine va_newa (atype := .long) (ty := .long) (N' := x.toNat) (a0 := (x.toNat, .inr (.inl fun _ => 0))) hx0 hb (hts _ wd_141) rfl hK hP hD hS hA (fun _ => rfl) (by rw [← zi_0, zi_lt (by omega) (by decide)]; omega) (zi_cl h0 (by omega)) (by show _ * 8 ≤ _; omega) hkn.1 hkn.2 d (fun q cA H1 hK1 hP1 hD1 hS1 => ?_)
  have e1 : cA = g.1 2 := Option.some.inj ((hK1.2 5 (cA, .long) rfl).2.symm.trans (hK.2 2 (g.1 2, .long) rfl).2)
  subst e1
  exact kk q H1 locs ls ⟨hP1, hD1, hS1⟩ hl
theorem k_newN {x : Int} {N index : Nat} (C : zX E cc own D g rm nl) (S : zSt g A (zst E) (zst E).heap) (hA : ∀ q, (zst E).heap.size ≤ q → A q) (hcl : Cond.classLink own index "CellMapper$Node" ∈ lw_g) (h0 : 0 ≤ x) (h1 : x ≤ 5000) (hx : x.toNat = N) (hkn : k + 1 ≤ rm.cells ∧ n + N ≤ rm.slots) (d : decode cc pc = .ok (.anewarray index, 3))
    {ws : va_W} (kk : ∀ q : Nat, zW E (kOK D A (zst E) (ws ++ [(q, kAr g 3 N)])) (k + 1) (n + N) (pc + 3) L (.ref q :: st) σ) : zW E (kOK D A (zst E) ws) k n pc L (.int (zi x) :: st) σ := by
  obtain ⟨p, l, e, R, s, m, args, below, meth, c, nL, Z⟩ := E
  obtain ⟨⟨hx0, hb, hml, hown, hts⟩, hK, hR, hN⟩ := C
  subst hR
  subst hx
  intro H locs ls ho hl
  obtain ⟨hP, hD, hS⟩ := ho
  refine va_newq (N' := x.toNat) hx0 hb hown (hts _ hcl) S.2.2.2.2.2.2.1 hK hP hD hS hA (by rw [← zi_0, zi_lt (by omega) (by decide)]; omega) (zi_cl h0 (by omega)) (by omega) hkn.1 hkn.2 d (fun q cA H1 hK1 hP1 hD1 hS1 => ?_)
  have e1 : cA = g.1 4 := va_RA_eq (hK1.2 5 (cA, .object "CellMapper$Node") rfl).2 (hK.2 4 (g.1 4, .object "CellMapper$Node") rfl).2
  subst e1
  exact kk q H1 locs ls ⟨hP1, hD1, hS1⟩ hl
theorem k_gets {index : Nat} {ws : va_W} (C : zX E cc own D g rm nl) (S : zSt g A (zst E) (zst E).heap) (hlink : Cond.fieldLink own index "java/util/ArrayList" "DEFAULTCAPACITY_EMPTY_ELEMENTDATA" "[Ljava/lang/Object;" ∈ lw_g) (d : decode cc pc = .ok (.getstatic index, 3)) (kk : zW E (kOK D A (zst E) ws) k n (pc + 3) L (.ref g.2.1 :: st) σ) : zW E (kOK D A (zst E) ws) k n pc L st σ := by
  obtain ⟨p, l, e, R, s, m, args, below, meth, c, nL, Z⟩ := E
  obtain ⟨⟨hx, hb, hml, hown, hts⟩, hK, hR, hN⟩ := C
  intro H locs ls ho hl
  exact va_gets hx hb S.2.1 ho.2.2 hown (hts _ hlink) (fun _ h => h) d (kk H locs ls ho hl)
theorem kA_sub {s : State} {ws : va_W} {H : Heap} {locs : List Loc} (hA : ∀ q, s.heap.size ≤ q → A q) (ho : kOK D A s ws σ H locs) : ∀ q, va_A ws H.size q → A q := by
  intro q h
  rcases h with ⟨k, e, h⟩ | h
  · exact ho.2.1.2 k _ h
  · exact hA q (Nat.le_trans ho.2.2.1 h)
theorem kPk_at {s : State} {H : Heap} {locs : List Loc} {as : List Value} {ws : va_W} (hK : va_K D classes (ztys g) s) (S : zSt g A s s.heap) (hA : ∀ q, s.heap.size ≤ q → A q) (ho : kOK D A s ws σ H locs) (U : State) (hU : U.heap = H) (hW : s.WarmedH U.vm) : zPk D g ws H.size as as.toArray U :=
  ⟨rfl, by rw [hU], by rw [hU]; exact ho.1, va_K.moved hW.alike hK, ⟨ho.2.1.1, fun _ _ _ => trivial⟩, by rw [hU]; exact ((S.kept ho.2.2.2.1).warm hW).narrow (fun q h => kA_sub hA ho q h)⟩
/-- a constructor is called -/
theorem k_call {y : MethodName} {b : ByteArray} {ml index : Nat} {rm2 : Room} {As st0 : List Value} {na mc ms : Nat} {Q : va_W → Prop} {ws : va_W} (C : zX E cc own D g rm nl) (S : zSt g A (zst E) (zst E).heap) (hA : ∀ q, (zst E).heap.size ≤ q → A q) (hY : zYi y b ml na) (hlink : Cond.methodLink own index y ∈ lw_g) (d : decode cc pc = .ok (.invokespecial index, 3)) (hR : rm2.cells = mc ∧ rm2.slots = ms ∧ rm2.frames + 1 ≤ rm.frames ∧ 8 + (ml + 11) + rm2.locals ≤ rm.locals) (hkn : k + mc ≤ rm.cells ∧ n + ms ≤ rm.slots) (hAs : As.length = na) (hs : st0 = As.reverse ++ .ref a :: st) (hst : (st.map fun v => v.category).sum ≤ 8)
    (hM : ∀ sz, zKv (zln E) y b ml rm2 D g ws (.ref a :: As) Q sz mc ms) (kk : ∀ u, Q u → zW E (kOK D A (zst E) u) (k + mc) (n + ms) (pc + 3) L st σ) : zW E (kOK D A (zst E) ws) k n pc L st0 σ := by
  obtain ⟨p, l, e, R0, s, m, args, below, meth, c, nL, Z⟩ := E
  obtain ⟨⟨hx, hb, hml, hown, hts⟩, hK, hRm, hN⟩ := C
  subst hs
  subst hRm
  intro H locs ls ho hl
  obtain ⟨y1, y2, y3, y4, y5, y6, y7⟩ := hY
  obtain ⟨r1, r2, r3, r4⟩ := hR
  refine va_callv (va_runI (As := As) (rest := st) ⟨hx, hb, hml, hown, hts⟩ (hM H.size) (cwI na hts (zws_good y b ml none y3) rfl r1 r2 (hts _ y2) (hts _ hlink) (hts _ y1) y4 ⟨y5, y6, y7⟩ ⟨r3, r4⟩) ⟨zPk_blind, fun U hU hW => kPk_at hK S hA ho U hU hW⟩ rfl hAs hl.1 rfl (lv_room hst) d hkn) ho.2.2 (fun q _ h => kA_sub hA ho q h) (fun q h => kA_sub hA ho q h) (fun u t H1 locs1 ht hvm hw hB hz1 hk1 hS1 => ?_)
  exact kk u hw H1 locs1 ls ⟨by rw [← ht]; exact hB.1, hB.2.weaken (fun _ _ _ h => kA_sub hA ho _ h), hS1⟩ hl
theorem k_callN {y : MethodName} {b : ByteArray} {ml index : Nat} {rm2 : Room} {As st0 : List Value} {na mc ms : Nat} {Q : va_W → Prop} {ws : va_W} (C : zX E cc R_CX D g rm nl) (S : zSt g A (zst E) (zst E).heap) (hA : ∀ q, (zst E).heap.size ≤ q → A q) (hY : zYi y b ml na) (hlink : (R_CX, index, y, R_CX) ∈ zNs) (d : decode cc pc = .ok (.invokespecial index, 3)) (hR : rm2.cells = mc ∧ rm2.slots = ms ∧ rm2.frames + 1 ≤ rm.frames ∧ 8 + (ml + 11) + rm2.locals ≤ rm.locals) (hkn : k + mc ≤ rm.cells ∧ n + ms ≤ rm.slots) (hAs : As.length = na) (hs : st0 = As.reverse ++ .ref a :: st) (hst : (st.map fun v => v.category).sum ≤ 8)
    (hM : ∀ sz, zKv (zln E) y b ml rm2 D g ws (.ref a :: As) Q sz mc ms) (kk : ∀ u, Q u → zW E (kOK D A (zst E) u) (k + mc) (n + ms) (pc + 3) L st σ) : zW E (kOK D A (zst E) ws) k n pc L st0 σ := by
  obtain ⟨p, l, e, R0, s, m, args, below, meth, c, nL, Z⟩ := E
  obtain ⟨⟨hx, hb, hml, hown, hts⟩, hK, hRm, hN⟩ := C
  subst hs
  subst hRm
  intro H locs ls ho hl
  obtain ⟨y1, y2, y3, y4, y5, y6, y7⟩ := hY
  obtain ⟨r1, r2, r3, r4⟩ := hR
  refine va_callv (va_runIN (As := As) (rest := st) ⟨hx, hb, hml, hown, hts⟩ (hM H.size) ⟨va_cnB na hts (zws_good y b ml none y3) rfl r1 r2 (S.2.2.2.2.1 (R_CX, index, y, R_CX) hlink) (hts _ y2) ⟨y5, y6, y7⟩ ⟨r3, r4⟩, y4, hts _ y1⟩ ⟨zPk_blind, fun U hU hW => kPk_at hK S hA ho U hU hW⟩ rfl hAs hl.1 rfl (lv_room hst) d hkn) ho.2.2 (fun q _ h => kA_sub hA ho q h) (fun q h => kA_sub hA ho q h) (fun u t H1 locs1 ht hvm hw hB hz1 hk1 hS1 => ?_)
  exact kk u hw H1 locs1 ls ⟨by rw [← ht]; exact hB.1, hB.2.weaken (fun _ _ _ h => kA_sub hA ho _ h), hS1⟩ hl
/-- the world written in another way -/
theorem k_ws {ws ws' : va_W} (h : ws = ws') (kk : zW E (kOK D A (zst E) ws') k n pc L st σ) : zW E (kOK D A (zst E) ws) k n pc L st σ := h ▸ kk
end ZK
