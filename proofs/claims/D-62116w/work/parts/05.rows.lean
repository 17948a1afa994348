/-! rows: one instruction each, over integers; the machine's frame, locals and heap are hidden in zW -/
abbrev zE : Type := Program × Launch × Env × Room × State × MethodId × Array Value × List Frame × Method × Code × Nat × (State → Prop)
def zst (E : zE) : State := E.2.2.2.2.1
def zln (E : zE) : Launch := E.2.1
def zW (E : zE) (OK : zS → Heap → List Loc → Prop) (k n pc : Nat) (L : List (Nat × Value)) (st : List Value) (σ : zS) : Prop := match E with
  | (p, l, e, R, s, m, args, below, meth, c, nL, Z) => ∀ (H : Heap) (locs : List Loc) (ls : Array Slot), OK σ H locs → lv_has ls nL L → W p l e R s m args below meth c H locs k n Z (F0 m pc ls st)
def zX (E : zE) (cc : ByteArray) (own : String) (D : va_G) (g : zG) (rm : Room) (nl : Nat) : Prop := match E with
  | (p, l, e, R, s, m, args, below, meth, c, nL, Z) => CallFix p m c cc nL s args lw_g own ∧ va_K D classes (ztys g) s ∧ R = rm ∧ nL = nl
def zRt (E : zE) (ret : Option FieldType) (Qc : Array Value → State → Outcome → State → Prop) (mc ms : Nat) (free : Addr → Prop) : Prop := match E with
  | (p, l, e, R, s, m, args, below, meth, c, nL, Z) => meth.sig.returnType = ret ∧ meth.locks = false ∧ Z = MQ below Qc args s mc ms free
section ZR
variable {E : zE} {OK : zS → Heap → List Loc → Prop} {k n pc : Nat} {L L' : List (Nat × Value)} {st : List Value} {σ : zS} {cc : ByteArray} {own : String} {D : va_G} {g : zG} {rm : Room} {nl : Nat}
theorem zW.widen {k' n' : Nat} (h1 : k ≤ k') (h2 : n ≤ n') (kk : zW E OK k' n' pc L st σ) : zW E OK k n pc L st σ := by
  obtain ⟨p, l, e, R, s, m, args, below, meth, c, nL, Z⟩ := E
  intro H locs ls ho hl
  exact W.widen h1 h2 (kk H locs ls ho hl)
theorem zW.mono {OK' : zS → Heap → List Loc → Prop} {σ' : zS} (h : ∀ H locs, OK σ H locs → OK' σ' H locs) (kk : zW E OK' k n pc L st σ') : zW E OK k n pc L st σ := by
  obtain ⟨p, l, e, R, s, m, args, below, meth, c, nL, Z⟩ := E
  intro H locs ls ho hl
  exact kk H locs ls (h H locs ho) hl
/-- fewer locals, in any order, by their places -/
theorem z_sub (ks : List Nat) (hl : lv_pick L ks = L') (kk : zW E OK k n pc L' st σ) : zW E OK k n pc L st σ := by
  obtain ⟨p, l, e, R, s, m, args, below, meth, c, nL, Z⟩ := E
  intro H locs ls ho h
  exact kk H locs ls ho (lv_sub h ks hl)
theorem z_pc {pc' : Nat} (h : pc = pc') (kk : zW E OK k n pc' L st σ) : zW E OK k n pc L st σ := h ▸ kk
theorem z_iconst {x : Int} (C : zX E cc own D g rm nl) (d : decode cc pc = .ok (.iconst x, 1)) (kk : zW E OK k n (pc + 1) L (.int (zi x) :: st) σ) : zW E OK k n pc L (st) σ := by
  obtain ⟨p, l, e, R, s, m, args, below, meth, c, nL, Z⟩ := E
  obtain ⟨⟨hx, hb, hml, hown, hts⟩, hK, hR, hN⟩ := C
  intro H locs ls ho hl
  exact lv_iconst hx hb d rfl (kk H locs ls ho hl)
theorem z_bipush {x : Int} (C : zX E cc own D g rm nl) (d : decode cc pc = .ok (.bipush x, 2)) (hv : (Int8.ofInt x).toInt32 = zi x) (kk : zW E OK k n (pc + 2) L (.int (zi x) :: st) σ) : zW E OK k n pc L (st) σ := by
  obtain ⟨p, l, e, R, s, m, args, below, meth, c, nL, Z⟩ := E
  obtain ⟨⟨hx, hb, hml, hown, hts⟩, hK, hR, hN⟩ := C
  intro H locs ls ho hl
  exact lv_bipush hx hb d hv (kk H locs ls ho hl)
theorem z_sipush {x : Int} (C : zX E cc own D g rm nl) (d : decode cc pc = .ok (.sipush x, 3)) (hv : (Int16.ofInt x).toInt32 = zi x) (kk : zW E OK k n (pc + 3) L (.int (zi x) :: st) σ) : zW E OK k n pc L (st) σ := by
  obtain ⟨p, l, e, R, s, m, args, below, meth, c, nL, Z⟩ := E
  obtain ⟨⟨hx, hb, hml, hown, hts⟩, hK, hR, hN⟩ := C
  intro H locs ls ho hl
  exact lv_sipush hx hb d hv (kk H locs ls ho hl)
theorem z_lconst {x : Fin 2} {y : Int} (C : zX E cc own D g rm nl) (d : decode cc pc = .ok (.lconst x, 1)) (hv : Int64.ofNat (x : Nat) = zj y) (kk : zW E OK k n (pc + 1) L (.long (zj y) :: st) σ) : zW E OK k n pc L (st) σ := by
  obtain ⟨p, l, e, R, s, m, args, below, meth, c, nL, Z⟩ := E
  obtain ⟨⟨hx, hb, hml, hown, hts⟩, hK, hR, hN⟩ := C
  intro H locs ls ho hl
  exact lv_lconst hx hb d hv (kk H locs ls ho hl)
theorem z_ldc {i : Nat} {v : Int32} {x : Int} (C : zX E cc own D g rm nl) (d : decode cc pc = .ok (.ldc i, 2)) (hc : Cond.constant own i v ∈ lw_g) (hv : v = zi x) (kk : zW E OK k n (pc + 2) L (.int (zi x) :: st) σ) : zW E OK k n pc L (st) σ := by
  obtain ⟨p, l, e, R, s, m, args, below, meth, c, nL, Z⟩ := E
  obtain ⟨⟨hx, hb, hml, hown, hts⟩, hK, hR, hN⟩ := C
  intro H locs ls ho hl
  subst hv; exact lv_ldc hx hb hown (hts _ hc) d (kk H locs ls ho hl)
theorem z_ldc2 {i : Nat} {v : Int64} {x : Int} (C : zX E cc own D g rm nl) (d : decode cc pc = .ok (.ldc2_w i, 3)) (hc : Cond.constantLong own i v ∈ lw_g) (hv : v = zj x) (kk : zW E OK k n (pc + 3) L (.long (zj x) :: st) σ) : zW E OK k n pc L (st) σ := by
  obtain ⟨p, l, e, R, s, m, args, below, meth, c, nL, Z⟩ := E
  obtain ⟨⟨hx, hb, hml, hown, hts⟩, hK, hR, hN⟩ := C
  intro H locs ls ho hl
  subst hv; exact lv_ldc2 hx hb hown (hts _ hc) d (kk H locs ls ho hl)
theorem z_iload_n {j : Fin 4} {x : Int32} (C : zX E cc own D g rm nl) (d : decode cc pc = .ok (.iload_n j, 1)) (q : Nat) (hq : L[q]? = some ((j : Nat), .int x)) (kk : zW E OK k n (pc + 1) L (.int x :: st) σ) : zW E OK k n pc L (st) σ := by
  obtain ⟨p, l, e, R, s, m, args, below, meth, c, nL, Z⟩ := E
  obtain ⟨⟨hx, hb, hml, hown, hts⟩, hK, hR, hN⟩ := C
  intro H locs ls ho hl
  exact lv_iload_n hx hb d rfl (lv_at hl q hq) (kk H locs ls ho hl)
theorem z_iload {j : Nat} {x : Int32} (C : zX E cc own D g rm nl) (d : decode cc pc = .ok (.iload j, 2)) (q : Nat) (hq : L[q]? = some (j, .int x)) (kk : zW E OK k n (pc + 2) L (.int x :: st) σ) : zW E OK k n pc L (st) σ := by
  obtain ⟨p, l, e, R, s, m, args, below, meth, c, nL, Z⟩ := E
  obtain ⟨⟨hx, hb, hml, hown, hts⟩, hK, hR, hN⟩ := C
  intro H locs ls ho hl
  exact lv_iload hx hb d (lv_at hl q hq) (kk H locs ls ho hl)
theorem z_istore_n {j : Fin 4} {x : Int32} (C : zX E cc own D g rm nl) (d : decode cc pc = .ok (.istore_n j, 1)) (hn : (j : Nat) < nl) (hf : ((j : Nat), Value.int x) :: L.filter (fun q => !(q.1 == (j : Nat)) && !(q.1 + 1 == (j : Nat) && q.2.category == 2)) = L') (kk : zW E OK k n (pc + 1) L' (st) σ) : zW E OK k n pc L (.int x :: st) σ := by
  obtain ⟨p, l, e, R, s, m, args, below, meth, c, nL, Z⟩ := E
  obtain ⟨⟨hx, hb, hml, hown, hts⟩, hK, hR, hN⟩ := C
  intro H locs ls ho hl
  subst hN; exact lv_istore_n hx hb d rfl hl hn hf (fun ls' hl' => kk H locs ls' ho hl')
theorem z_istore {j : Nat} {x : Int32} (C : zX E cc own D g rm nl) (d : decode cc pc = .ok (.istore j, 2)) (hn : j < nl) (hf : (j, Value.int x) :: L.filter (fun q => !(q.1 == j) && !(q.1 + 1 == j && q.2.category == 2)) = L') (kk : zW E OK k n (pc + 2) L' (st) σ) : zW E OK k n pc L (.int x :: st) σ := by
  obtain ⟨p, l, e, R, s, m, args, below, meth, c, nL, Z⟩ := E
  obtain ⟨⟨hx, hb, hml, hown, hts⟩, hK, hR, hN⟩ := C
  intro H locs ls ho hl
  subst hN; exact lv_istore hx hb d hl hn hf (fun ls' hl' => kk H locs ls' ho hl')
theorem z_lload_n {j : Fin 4} {x : Int64} (C : zX E cc own D g rm nl) (d : decode cc pc = .ok (.lload_n j, 1)) (q : Nat) (hq : L[q]? = some ((j : Nat), .long x)) (kk : zW E OK k n (pc + 1) L (.long x :: st) σ) : zW E OK k n pc L (st) σ := by
  obtain ⟨p, l, e, R, s, m, args, below, meth, c, nL, Z⟩ := E
  obtain ⟨⟨hx, hb, hml, hown, hts⟩, hK, hR, hN⟩ := C
  intro H locs ls ho hl
  exact lv_lload_n hx hb d rfl (lv_at hl q hq) (kk H locs ls ho hl)
theorem z_lload {j : Nat} {x : Int64} (C : zX E cc own D g rm nl) (d : decode cc pc = .ok (.lload j, 2)) (q : Nat) (hq : L[q]? = some (j, .long x)) (kk : zW E OK k n (pc + 2) L (.long x :: st) σ) : zW E OK k n pc L (st) σ := by
  obtain ⟨p, l, e, R, s, m, args, below, meth, c, nL, Z⟩ := E
  obtain ⟨⟨hx, hb, hml, hown, hts⟩, hK, hR, hN⟩ := C
  intro H locs ls ho hl
  exact lv_lload hx hb d (lv_at hl q hq) (kk H locs ls ho hl)
theorem z_lstore_n {j : Fin 4} {x : Int64} (C : zX E cc own D g rm nl) (d : decode cc pc = .ok (.lstore_n j, 1)) (hn : (j : Nat) + 1 < nl) (hf : ((j : Nat), Value.long x) :: L.filter (fun q => !(q.1 == (j : Nat)) && (!(q.1 == (j : Nat) + 1) && !(q.1 + 1 == (j : Nat) && q.2.category == 2))) = L') (kk : zW E OK k n (pc + 1) L' (st) σ) : zW E OK k n pc L (.long x :: st) σ := by
  obtain ⟨p, l, e, R, s, m, args, below, meth, c, nL, Z⟩ := E
  obtain ⟨⟨hx, hb, hml, hown, hts⟩, hK, hR, hN⟩ := C
  intro H locs ls ho hl
  subst hN; exact lv_lstore_n hx hb d rfl hl hn hf (fun ls' hl' => kk H locs ls' ho hl')
theorem z_lstore {j : Nat} {x : Int64} (C : zX E cc own D g rm nl) (d : decode cc pc = .ok (.lstore j, 2)) (hn : j + 1 < nl) (hf : (j, Value.long x) :: L.filter (fun q => !(q.1 == j) && (!(q.1 == j + 1) && !(q.1 + 1 == j && q.2.category == 2))) = L') (kk : zW E OK k n (pc + 2) L' (st) σ) : zW E OK k n pc L (.long x :: st) σ := by
  obtain ⟨p, l, e, R, s, m, args, below, meth, c, nL, Z⟩ := E
  obtain ⟨⟨hx, hb, hml, hown, hts⟩, hK, hR, hN⟩ := C
  intro H locs ls ho hl
  subst hN; exact lv_lstore hx hb d hl hn hf (fun ls' hl' => kk H locs ls' ho hl')
theorem z_aload_n {j : Fin 4} {x : Nat} (C : zX E cc own D g rm nl) (d : decode cc pc = .ok (.aload_n j, 1)) (q : Nat) (hq : L[q]? = some ((j : Nat), .ref x)) (kk : zW E OK k n (pc + 1) L (.ref x :: st) σ) : zW E OK k n pc L (st) σ := by
  obtain ⟨p, l, e, R, s, m, args, below, meth, c, nL, Z⟩ := E
  obtain ⟨⟨hx, hb, hml, hown, hts⟩, hK, hR, hN⟩ := C
  intro H locs ls ho hl
  exact lv_aload_n hx hb d rfl (lv_at hl q hq) (kk H locs ls ho hl)
theorem z_aload {j : Nat} {x : Nat} (C : zX E cc own D g rm nl) (d : decode cc pc = .ok (.aload j, 2)) (q : Nat) (hq : L[q]? = some (j, .ref x)) (kk : zW E OK k n (pc + 2) L (.ref x :: st) σ) : zW E OK k n pc L (st) σ := by
  obtain ⟨p, l, e, R, s, m, args, below, meth, c, nL, Z⟩ := E
  obtain ⟨⟨hx, hb, hml, hown, hts⟩, hK, hR, hN⟩ := C
  intro H locs ls ho hl
  exact lv_aload hx hb d (lv_at hl q hq) (kk H locs ls ho hl)
theorem z_astore_n {j : Fin 4} {x : Nat} (C : zX E cc own D g rm nl) (d : decode cc pc = .ok (.astore_n j, 1)) (hn : (j : Nat) < nl) (hf : ((j : Nat), Value.ref x) :: L.filter (fun q => !(q.1 == (j : Nat)) && !(q.1 + 1 == (j : Nat) && q.2.category == 2)) = L') (kk : zW E OK k n (pc + 1) L' (st) σ) : zW E OK k n pc L (.ref x :: st) σ := by
  obtain ⟨p, l, e, R, s, m, args, below, meth, c, nL, Z⟩ := E
  obtain ⟨⟨hx, hb, hml, hown, hts⟩, hK, hR, hN⟩ := C
  intro H locs ls ho hl
  subst hN; exact lv_astore_n hx hb d rfl hl hn hf (fun ls' hl' => kk H locs ls' ho hl')
theorem z_astore {j : Nat} {x : Nat} (C : zX E cc own D g rm nl) (d : decode cc pc = .ok (.astore j, 2)) (hn : j < nl) (hf : (j, Value.ref x) :: L.filter (fun q => !(q.1 == j) && !(q.1 + 1 == j && q.2.category == 2)) = L') (kk : zW E OK k n (pc + 2) L' (st) σ) : zW E OK k n pc L (.ref x :: st) σ := by
  obtain ⟨p, l, e, R, s, m, args, below, meth, c, nL, Z⟩ := E
  obtain ⟨⟨hx, hb, hml, hown, hts⟩, hK, hR, hN⟩ := C
  intro H locs ls ho hl
  subst hN; exact lv_astore hx hb d hl hn hf (fun ls' hl' => kk H locs ls' ho hl')
theorem z_iinc {j : Nat} {x y : Int} (C : zX E cc own D g rm nl) (d : decode cc pc = .ok (.iinc j y, 3)) (q : Nat) (hq : L[q]? = some (j, .int (zi x))) (hn : j < nl) (hf : (j, Value.int (zi (x + y))) :: L.filter (fun q => !(q.1 == j) && !(q.1 + 1 == j && q.2.category == 2)) = L') (kk : zW E OK k n (pc + 3) L' (st) σ) : zW E OK k n pc L (st) σ := by
  obtain ⟨p, l, e, R, s, m, args, below, meth, c, nL, Z⟩ := E
  obtain ⟨⟨hx, hb, hml, hown, hts⟩, hK, hR, hN⟩ := C
  intro H locs ls ho hl
  subst hN; exact lv_iinc hx hb d hl hq (by rw [← zi_add]; rfl) hn hf (fun ls' hl' => kk H locs ls' ho hl')
theorem z_iadd {x y : Int} (C : zX E cc own D g rm nl) (d : decode cc pc = .ok (.iadd, 1)) (kk : zW E OK k n (pc + 1) L (.int (zi (x + y)) :: st) σ) : zW E OK k n pc L (.int (zi y) :: .int (zi x) :: st) σ := by
  obtain ⟨p, l, e, R, s, m, args, below, meth, c, nL, Z⟩ := E
  obtain ⟨⟨hx, hb, hml, hown, hts⟩, hK, hR, hN⟩ := C
  intro H locs ls ho hl
  exact lv_iadd hx hb d (by rw [zi_add]; exact kk H locs ls ho hl)
theorem z_isub {x y : Int} (C : zX E cc own D g rm nl) (d : decode cc pc = .ok (.isub, 1)) (kk : zW E OK k n (pc + 1) L (.int (zi (x - y)) :: st) σ) : zW E OK k n pc L (.int (zi y) :: .int (zi x) :: st) σ := by
  obtain ⟨p, l, e, R, s, m, args, below, meth, c, nL, Z⟩ := E
  obtain ⟨⟨hx, hb, hml, hown, hts⟩, hK, hR, hN⟩ := C
  intro H locs ls ho hl
  exact lv_isub hx hb d (by rw [zi_sub]; exact kk H locs ls ho hl)
theorem z_imul {x y : Int} (C : zX E cc own D g rm nl) (d : decode cc pc = .ok (.imul, 1)) (kk : zW E OK k n (pc + 1) L (.int (zi (x * y)) :: st) σ) : zW E OK k n pc L (.int (zi y) :: .int (zi x) :: st) σ := by
  obtain ⟨p, l, e, R, s, m, args, below, meth, c, nL, Z⟩ := E
  obtain ⟨⟨hx, hb, hml, hown, hts⟩, hK, hR, hN⟩ := C
  intro H locs ls ho hl
  exact lv_imul hx hb d (by rw [zi_mul]; exact kk H locs ls ho hl)
theorem z_ladd {x y : Int} (C : zX E cc own D g rm nl) (d : decode cc pc = .ok (.ladd, 1)) (kk : zW E OK k n (pc + 1) L (.long (zj (x + y)) :: st) σ) : zW E OK k n pc L (.long (zj y) :: .long (zj x) :: st) σ := by
  obtain ⟨p, l, e, R, s, m, args, below, meth, c, nL, Z⟩ := E
  obtain ⟨⟨hx, hb, hml, hown, hts⟩, hK, hR, hN⟩ := C
  intro H locs ls ho hl
  exact lv_ladd hx hb d (by rw [zj_add]; exact kk H locs ls ho hl)
theorem z_lsub {x y : Int} (C : zX E cc own D g rm nl) (d : decode cc pc = .ok (.lsub, 1)) (kk : zW E OK k n (pc + 1) L (.long (zj (x - y)) :: st) σ) : zW E OK k n pc L (.long (zj y) :: .long (zj x) :: st) σ := by
  obtain ⟨p, l, e, R, s, m, args, below, meth, c, nL, Z⟩ := E
  obtain ⟨⟨hx, hb, hml, hown, hts⟩, hK, hR, hN⟩ := C
  intro H locs ls ho hl
  exact lv_lsub hx hb d (by rw [zj_sub]; exact kk H locs ls ho hl)
theorem z_lmul {x y : Int} (C : zX E cc own D g rm nl) (d : decode cc pc = .ok (.lmul, 1)) (kk : zW E OK k n (pc + 1) L (.long (zj (x * y)) :: st) σ) : zW E OK k n pc L (.long (zj y) :: .long (zj x) :: st) σ := by
  obtain ⟨p, l, e, R, s, m, args, below, meth, c, nL, Z⟩ := E
  obtain ⟨⟨hx, hb, hml, hown, hts⟩, hK, hR, hN⟩ := C
  intro H locs ls ho hl
  exact lv_lmul hx hb d (by rw [zj_mul]; exact kk H locs ls ho hl)
theorem z_iand {x y : Int} (C : zX E cc own D g rm nl) (d : decode cc pc = .ok (.iand, 1)) (kk : zW E OK k n (pc + 1) L (.int (zi (zand x y)) :: st) σ) : zW E OK k n pc L (.int (zi y) :: .int (zi x) :: st) σ := by
  obtain ⟨p, l, e, R, s, m, args, below, meth, c, nL, Z⟩ := E
  obtain ⟨⟨hx, hb, hml, hown, hts⟩, hK, hR, hN⟩ := C
  intro H locs ls ho hl
  exact lv_iand hx hb d (by have h := kk H locs ls ho hl; rwa [zand, zi_of] at h)
theorem z_ior {x y : Int} (C : zX E cc own D g rm nl) (d : decode cc pc = .ok (.ior, 1)) (kk : zW E OK k n (pc + 1) L (.int (zi (zor x y)) :: st) σ) : zW E OK k n pc L (.int (zi y) :: .int (zi x) :: st) σ := by
  obtain ⟨p, l, e, R, s, m, args, below, meth, c, nL, Z⟩ := E
  obtain ⟨⟨hx, hb, hml, hown, hts⟩, hK, hR, hN⟩ := C
  intro H locs ls ho hl
  exact lv_ior hx hb d (by have h := kk H locs ls ho hl; rwa [zor, zi_of] at h)
theorem z_ishl {x y : Int} (C : zX E cc own D g rm nl) (d : decode cc pc = .ok (.ishl, 1)) (kk : zW E OK k n (pc + 1) L (.int (zi (zshl x y)) :: st) σ) : zW E OK k n pc L (.int (zi y) :: .int (zi x) :: st) σ := by
  obtain ⟨p, l, e, R, s, m, args, below, meth, c, nL, Z⟩ := E
  obtain ⟨⟨hx, hb, hml, hown, hts⟩, hK, hR, hN⟩ := C
  intro H locs ls ho hl
  exact lv_ishl hx hb d (by have h := kk H locs ls ho hl; rwa [zshl, zi_of] at h)
theorem z_ishr {x y : Int} (C : zX E cc own D g rm nl) (d : decode cc pc = .ok (.ishr, 1)) (kk : zW E OK k n (pc + 1) L (.int (zi (zshr x y)) :: st) σ) : zW E OK k n pc L (.int (zi y) :: .int (zi x) :: st) σ := by
  obtain ⟨p, l, e, R, s, m, args, below, meth, c, nL, Z⟩ := E
  obtain ⟨⟨hx, hb, hml, hown, hts⟩, hK, hR, hN⟩ := C
  intro H locs ls ho hl
  exact lv_ishr hx hb d (by have h := kk H locs ls ho hl; rwa [zshr, zi_of] at h)
theorem z_iushr {x y : Int} (C : zX E cc own D g rm nl) (d : decode cc pc = .ok (.iushr, 1)) (kk : zW E OK k n (pc + 1) L (.int (zi (zushr x y)) :: st) σ) : zW E OK k n pc L (.int (zi y) :: .int (zi x) :: st) σ := by
  obtain ⟨p, l, e, R, s, m, args, below, meth, c, nL, Z⟩ := E
  obtain ⟨⟨hx, hb, hml, hown, hts⟩, hK, hR, hN⟩ := C
  intro H locs ls ho hl
  exact lv_iushr hx hb d rfl (by have h := kk H locs ls ho hl; rwa [zushr, zi_of] at h)
theorem z_land {x y : Int} (C : zX E cc own D g rm nl) (d : decode cc pc = .ok (.land, 1)) (kk : zW E OK k n (pc + 1) L (.long (zj (zland x y)) :: st) σ) : zW E OK k n pc L (.long (zj y) :: .long (zj x) :: st) σ := by
  obtain ⟨p, l, e, R, s, m, args, below, meth, c, nL, Z⟩ := E
  obtain ⟨⟨hx, hb, hml, hown, hts⟩, hK, hR, hN⟩ := C
  intro H locs ls ho hl
  exact lv_land hx hb d (by have h := kk H locs ls ho hl; rwa [zland, zj_of] at h)
theorem z_lor {x y : Int} (C : zX E cc own D g rm nl) (d : decode cc pc = .ok (.lor, 1)) (kk : zW E OK k n (pc + 1) L (.long (zj (zlor x y)) :: st) σ) : zW E OK k n pc L (.long (zj y) :: .long (zj x) :: st) σ := by
  obtain ⟨p, l, e, R, s, m, args, below, meth, c, nL, Z⟩ := E
  obtain ⟨⟨hx, hb, hml, hown, hts⟩, hK, hR, hN⟩ := C
  intro H locs ls ho hl
  exact lv_lor hx hb d (by have h := kk H locs ls ho hl; rwa [zlor, zj_of] at h)
theorem z_lshl {x y : Int} (C : zX E cc own D g rm nl) (d : decode cc pc = .ok (.lshl, 1)) (kk : zW E OK k n (pc + 1) L (.long (zj (zlshl x y)) :: st) σ) : zW E OK k n pc L (.int (zi y) :: .long (zj x) :: st) σ := by
  obtain ⟨p, l, e, R, s, m, args, below, meth, c, nL, Z⟩ := E
  obtain ⟨⟨hx, hb, hml, hown, hts⟩, hK, hR, hN⟩ := C
  intro H locs ls ho hl
  exact lv_lshl hx hb d rfl (by have h := kk H locs ls ho hl; rwa [zlshl, zj_of] at h)
theorem z_lshr {x y : Int} (C : zX E cc own D g rm nl) (d : decode cc pc = .ok (.lshr, 1)) (kk : zW E OK k n (pc + 1) L (.long (zj (zlshr x y)) :: st) σ) : zW E OK k n pc L (.int (zi y) :: .long (zj x) :: st) σ := by
  obtain ⟨p, l, e, R, s, m, args, below, meth, c, nL, Z⟩ := E
  obtain ⟨⟨hx, hb, hml, hown, hts⟩, hK, hR, hN⟩ := C
  intro H locs ls ho hl
  exact lv_lshr hx hb d rfl (by have h := kk H locs ls ho hl; rwa [zlshr, zj_of] at h)
theorem z_lushr {x y : Int} (C : zX E cc own D g rm nl) (d : decode cc pc = .ok (.lushr, 1)) (kk : zW E OK k n (pc + 1) L (.long (zj (zlushr x y)) :: st) σ) : zW E OK k n pc L (.int (zi y) :: .long (zj x) :: st) σ := by
  obtain ⟨p, l, e, R, s, m, args, below, meth, c, nL, Z⟩ := E
  obtain ⟨⟨hx, hb, hml, hown, hts⟩, hK, hR, hN⟩ := C
  intro H locs ls ho hl
  exact lv_lushr hx hb d rfl (by have h := kk H locs ls ho hl; rwa [zlushr, zj_of] at h)
theorem z_i2l {x : Int} (C : zX E cc own D g rm nl) (d : decode cc pc = .ok (.i2l, 1)) (h : zc x) (kk : zW E OK k n (pc + 1) L (.long (zj x) :: st) σ) : zW E OK k n pc L (.int (zi x) :: st) σ := by
  obtain ⟨p, l, e, R, s, m, args, below, meth, c, nL, Z⟩ := E
  obtain ⟨⟨hx, hb, hml, hown, hts⟩, hK, hR, hN⟩ := C
  intro H locs ls ho hl
  exact lv_i2l hx hb d (zi_i2l h) (kk H locs ls ho hl)
theorem z_l2i {x : Int} (C : zX E cc own D g rm nl) (d : decode cc pc = .ok (.l2i, 1)) (kk : zW E OK k n (pc + 1) L (.int (zi x) :: st) σ) : zW E OK k n pc L (.long (zj x) :: st) σ := by
  obtain ⟨p, l, e, R, s, m, args, below, meth, c, nL, Z⟩ := E
  obtain ⟨⟨hx, hb, hml, hown, hts⟩, hK, hR, hN⟩ := C
  intro H locs ls ho hl
  exact lv_l2i hx hb d (zj_l2i x) (kk H locs ls ho hl)
theorem z_idiv {x y : Int} (C : zX E cc own D g rm nl) (d : decode cc pc = .ok (.idiv, 1)) (h : zc x) (h0 : 0 ≤ x) (hy : zc y) (h1 : 0 < y) (kk : zW E OK k n (pc + 1) L (.int (zi (x / y)) :: st) σ) : zW E OK k n pc L (.int (zi y) :: .int (zi x) :: st) σ := by
  obtain ⟨p, l, e, R, s, m, args, below, meth, c, nL, Z⟩ := E
  obtain ⟨⟨hx, hb, hml, hown, hts⟩, hK, hR, hN⟩ := C
  intro H locs ls ho hl
  exact lv_idiv hx hb d (zi_ne0 hy h1) (by rw [zi_div h h0 hy h1]; exact kk H locs ls ho hl)
theorem z_irem {x y : Int} (C : zX E cc own D g rm nl) (d : decode cc pc = .ok (.irem, 1)) (h : zc x) (h0 : 0 ≤ x) (hy : zc y) (h1 : 0 < y) (kk : zW E OK k n (pc + 1) L (.int (zi (x % y)) :: st) σ) : zW E OK k n pc L (.int (zi y) :: .int (zi x) :: st) σ := by
  obtain ⟨p, l, e, R, s, m, args, below, meth, c, nL, Z⟩ := E
  obtain ⟨⟨hx, hb, hml, hown, hts⟩, hK, hR, hN⟩ := C
  intro H locs ls ho hl
  exact lv_irem hx hb d (zi_ne0 hy h1) (by rw [zi_rem h h0 hy h1]; exact kk H locs ls ho hl)
theorem z_dup {v : Value} (C : zX E cc own D g rm nl) (d : decode cc pc = .ok (.dup, 1)) (hv : v.category = 1) (kk : zW E OK k n (pc + 1) L (v :: v :: st) σ) : zW E OK k n pc L (v :: st) σ := by
  obtain ⟨p, l, e, R, s, m, args, below, meth, c, nL, Z⟩ := E
  obtain ⟨⟨hx, hb, hml, hown, hts⟩, hK, hR, hN⟩ := C
  intro H locs ls ho hl
  exact lv_dup hx hb d hv (kk H locs ls ho hl)
theorem z_dup_x1 {v u : Value} (C : zX E cc own D g rm nl) (d : decode cc pc = .ok (.dup_x1, 1)) (hv : v.category = 1) (hu : u.category = 1) (kk : zW E OK k n (pc + 1) L (v :: u :: v :: st) σ) : zW E OK k n pc L (v :: u :: st) σ := by
  obtain ⟨p, l, e, R, s, m, args, below, meth, c, nL, Z⟩ := E
  obtain ⟨⟨hx, hb, hml, hown, hts⟩, hK, hR, hN⟩ := C
  intro H locs ls ho hl
  exact lv_dup_x1 hx hb d hv hu (kk H locs ls ho hl)
theorem z_dup2 {v u : Value} (C : zX E cc own D g rm nl) (d : decode cc pc = .ok (.dup2, 1)) (hv : v.category = 1) (hu : u.category = 1) (kk : zW E OK k n (pc + 1) L (v :: u :: v :: u :: st) σ) : zW E OK k n pc L (v :: u :: st) σ := by
  obtain ⟨p, l, e, R, s, m, args, below, meth, c, nL, Z⟩ := E
  obtain ⟨⟨hx, hb, hml, hown, hts⟩, hK, hR, hN⟩ := C
  intro H locs ls ho hl
  exact lv_dup2_11 hx hb d hv hu (kk H locs ls ho hl)
theorem z_pop {v : Value} (C : zX E cc own D g rm nl) (d : decode cc pc = .ok (.pop, 1)) (hv : v.category = 1) (kk : zW E OK k n (pc + 1) L (st) σ) : zW E OK k n pc L (v :: st) σ := by
  obtain ⟨p, l, e, R, s, m, args, below, meth, c, nL, Z⟩ := E
  obtain ⟨⟨hx, hb, hml, hown, hts⟩, hK, hR, hN⟩ := C
  intro H locs ls ho hl
  exact lv_pop hx hb d hv (kk H locs ls ho hl)
theorem z_null (C : zX E cc own D g rm nl) (d : decode cc pc = .ok (.aconst_null, 1)) (kk : zW E OK k n (pc + 1) L (.null :: st) σ) : zW E OK k n pc L (st) σ := by
  obtain ⟨p, l, e, R, s, m, args, below, meth, c, nL, Z⟩ := E
  obtain ⟨⟨hx, hb, hml, hown, hts⟩, hK, hR, hN⟩ := C
  intro H locs ls ho hl
  exact lv_null hx hb d (kk H locs ls ho hl)
theorem z_goto {off : Int} {tgt : Nat} (C : zX E cc own D g rm nl) (d : decode cc pc = .ok (.goto off, 3)) (ht : (pc : Int) + off = (tgt : Int)) (kk : zW E OK k n tgt L (st) σ) : zW E OK k n pc L (st) σ := by
  obtain ⟨p, l, e, R, s, m, args, below, meth, c, nL, Z⟩ := E
  obtain ⟨⟨hx, hb, hml, hown, hts⟩, hK, hR, hN⟩ := C
  intro H locs ls ho hl
  exact lv_goto hx hb d ht (kk H locs ls ho hl)
theorem z_icmp_lt {x y : Int} {off : Int} {tgt : Nat} (C : zX E cc own D g rm nl) (d : decode cc pc = .ok (.if_icmp .lt off, 3)) (ht : (pc : Int) + off = (tgt : Int)) (hx1 : zc x) (hy1 : zc y) {P1 P2 : Prop} (h : (x < y → P1) ∧ (¬ x < y → P2)) (kt : P1 → zW E OK k n tgt L st σ) (kf : P2 → zW E OK k n (pc + 3) L st σ) : zW E OK k n pc L (.int (zi y) :: .int (zi x) :: st) σ := by
  obtain ⟨p, l, e, R, s, m, args, below, meth, c, nL, Z⟩ := E
  obtain ⟨⟨hx, hb, hml, hown, hts⟩, hK, hR, hN⟩ := C
  intro H locs ls ho hl
  exact lv_icmp_lt hx hb d ht (fun q => kt (h.1 ((zi_lt hx1 hy1).mp q)) H locs ls ho hl) (fun q => kf (h.2 (fun z => q ((zi_lt hx1 hy1).mpr z))) H locs ls ho hl)
theorem z_icmp_ge {x y : Int} {off : Int} {tgt : Nat} (C : zX E cc own D g rm nl) (d : decode cc pc = .ok (.if_icmp .ge off, 3)) (ht : (pc : Int) + off = (tgt : Int)) (hx1 : zc x) (hy1 : zc y) {P1 P2 : Prop} (h : (y ≤ x → P1) ∧ (¬ y ≤ x → P2)) (kt : P1 → zW E OK k n tgt L st σ) (kf : P2 → zW E OK k n (pc + 3) L st σ) : zW E OK k n pc L (.int (zi y) :: .int (zi x) :: st) σ := by
  obtain ⟨p, l, e, R, s, m, args, below, meth, c, nL, Z⟩ := E
  obtain ⟨⟨hx, hb, hml, hown, hts⟩, hK, hR, hN⟩ := C
  intro H locs ls ho hl
  exact lv_icmp_ge hx hb d ht (fun q => kt (h.1 ((zi_le hy1 hx1).mp q)) H locs ls ho hl) (fun q => kf (h.2 (fun z => q ((zi_le hy1 hx1).mpr z))) H locs ls ho hl)
theorem z_icmp_gt {x y : Int} {off : Int} {tgt : Nat} (C : zX E cc own D g rm nl) (d : decode cc pc = .ok (.if_icmp .gt off, 3)) (ht : (pc : Int) + off = (tgt : Int)) (hx1 : zc x) (hy1 : zc y) {P1 P2 : Prop} (h : (y < x → P1) ∧ (¬ y < x → P2)) (kt : P1 → zW E OK k n tgt L st σ) (kf : P2 → zW E OK k n (pc + 3) L st σ) : zW E OK k n pc L (.int (zi y) :: .int (zi x) :: st) σ := by
  obtain ⟨p, l, e, R, s, m, args, below, meth, c, nL, Z⟩ := E
  obtain ⟨⟨hx, hb, hml, hown, hts⟩, hK, hR, hN⟩ := C
  intro H locs ls ho hl
  exact lv_icmp_gt hx hb d ht (fun q => kt (h.1 ((zi_lt hy1 hx1).mp q)) H locs ls ho hl) (fun q => kf (h.2 (fun z => q ((zi_lt hy1 hx1).mpr z))) H locs ls ho hl)
theorem z_icmp_le {x y : Int} {off : Int} {tgt : Nat} (C : zX E cc own D g rm nl) (d : decode cc pc = .ok (.if_icmp .le off, 3)) (ht : (pc : Int) + off = (tgt : Int)) (hx1 : zc x) (hy1 : zc y) {P1 P2 : Prop} (h : (x ≤ y → P1) ∧ (¬ x ≤ y → P2)) (kt : P1 → zW E OK k n tgt L st σ) (kf : P2 → zW E OK k n (pc + 3) L st σ) : zW E OK k n pc L (.int (zi y) :: .int (zi x) :: st) σ := by
  obtain ⟨p, l, e, R, s, m, args, below, meth, c, nL, Z⟩ := E
  obtain ⟨⟨hx, hb, hml, hown, hts⟩, hK, hR, hN⟩ := C
  intro H locs ls ho hl
  exact lv_icmp_le hx hb d ht (fun q => kt (h.1 ((zi_le hx1 hy1).mp q)) H locs ls ho hl) (fun q => kf (h.2 (fun z => q ((zi_le hx1 hy1).mpr z))) H locs ls ho hl)
theorem z_icmp_eq {x y : Int} {off : Int} {tgt : Nat} (C : zX E cc own D g rm nl) (d : decode cc pc = .ok (.if_icmp .eq off, 3)) (ht : (pc : Int) + off = (tgt : Int)) (hx1 : zc x) (hy1 : zc y) {P1 P2 : Prop} (h : (x = y → P1) ∧ (¬ x = y → P2)) (kt : P1 → zW E OK k n tgt L st σ) (kf : P2 → zW E OK k n (pc + 3) L st σ) : zW E OK k n pc L (.int (zi y) :: .int (zi x) :: st) σ := by
  obtain ⟨p, l, e, R, s, m, args, below, meth, c, nL, Z⟩ := E
  obtain ⟨⟨hx, hb, hml, hown, hts⟩, hK, hR, hN⟩ := C
  intro H locs ls ho hl
  exact lv_icmp_eq hx hb d ht (fun q => kt (h.1 ((zi_eq hx1 hy1).mp q)) H locs ls ho hl) (fun q => kf (h.2 (fun z => q ((zi_eq hx1 hy1).mpr z))) H locs ls ho hl)
theorem z_if_lt {x : Int} {off : Int} {tgt : Nat} (C : zX E cc own D g rm nl) (d : decode cc pc = .ok (.ifCond .lt off, 3)) (ht : (pc : Int) + off = (tgt : Int)) (hx1 : zc x) {P1 P2 : Prop} (h : (x < 0 → P1) ∧ (¬ x < 0 → P2)) (kt : P1 → zW E OK k n tgt L st σ) (kf : P2 → zW E OK k n (pc + 3) L st σ) : zW E OK k n pc L (.int (zi x) :: st) σ := by
  obtain ⟨p, l, e, R, s, m, args, below, meth, c, nL, Z⟩ := E
  obtain ⟨⟨hx, hb, hml, hown, hts⟩, hK, hR, hN⟩ := C
  intro H locs ls ho hl
  exact lv_if_lt hx hb d ht (fun q => kt (h.1 ((zi_lt hx1 zc0).mp (by rw [zi_0]; exact q))) H locs ls ho hl) (fun q => kf (h.2 (fun z => q ((by have w := (zi_lt hx1 zc0).mpr z; rw [zi_0] at w; exact w)))) H locs ls ho hl)
theorem z_if_ge {x : Int} {off : Int} {tgt : Nat} (C : zX E cc own D g rm nl) (d : decode cc pc = .ok (.ifCond .ge off, 3)) (ht : (pc : Int) + off = (tgt : Int)) (hx1 : zc x) {P1 P2 : Prop} (h : (0 ≤ x → P1) ∧ (¬ 0 ≤ x → P2)) (kt : P1 → zW E OK k n tgt L st σ) (kf : P2 → zW E OK k n (pc + 3) L st σ) : zW E OK k n pc L (.int (zi x) :: st) σ := by
  obtain ⟨p, l, e, R, s, m, args, below, meth, c, nL, Z⟩ := E
  obtain ⟨⟨hx, hb, hml, hown, hts⟩, hK, hR, hN⟩ := C
  intro H locs ls ho hl
  exact lv_if_ge hx hb d ht (fun q => kt (h.1 ((zi_le zc0 hx1).mp (by rw [zi_0]; exact q))) H locs ls ho hl) (fun q => kf (h.2 (fun z => q ((by have w := (zi_le zc0 hx1).mpr z; rw [zi_0] at w; exact w)))) H locs ls ho hl)
theorem z_if_gt {x : Int} {off : Int} {tgt : Nat} (C : zX E cc own D g rm nl) (d : decode cc pc = .ok (.ifCond .gt off, 3)) (ht : (pc : Int) + off = (tgt : Int)) (hx1 : zc x) {P1 P2 : Prop} (h : (0 < x → P1) ∧ (¬ 0 < x → P2)) (kt : P1 → zW E OK k n tgt L st σ) (kf : P2 → zW E OK k n (pc + 3) L st σ) : zW E OK k n pc L (.int (zi x) :: st) σ := by
  obtain ⟨p, l, e, R, s, m, args, below, meth, c, nL, Z⟩ := E
  obtain ⟨⟨hx, hb, hml, hown, hts⟩, hK, hR, hN⟩ := C
  intro H locs ls ho hl
  exact lv_if_gt hx hb d ht (fun q => kt (h.1 ((zi_lt zc0 hx1).mp (by rw [zi_0]; exact q))) H locs ls ho hl) (fun q => kf (h.2 (fun z => q ((by have w := (zi_lt zc0 hx1).mpr z; rw [zi_0] at w; exact w)))) H locs ls ho hl)
theorem z_if_le {x : Int} {off : Int} {tgt : Nat} (C : zX E cc own D g rm nl) (d : decode cc pc = .ok (.ifCond .le off, 3)) (ht : (pc : Int) + off = (tgt : Int)) (hx1 : zc x) {P1 P2 : Prop} (h : (x ≤ 0 → P1) ∧ (¬ x ≤ 0 → P2)) (kt : P1 → zW E OK k n tgt L st σ) (kf : P2 → zW E OK k n (pc + 3) L st σ) : zW E OK k n pc L (.int (zi x) :: st) σ := by
  obtain ⟨p, l, e, R, s, m, args, below, meth, c, nL, Z⟩ := E
  obtain ⟨⟨hx, hb, hml, hown, hts⟩, hK, hR, hN⟩ := C
  intro H locs ls ho hl
  exact lv_if_le hx hb d ht (fun q => kt (h.1 ((zi_le hx1 zc0).mp (by rw [zi_0]; exact q))) H locs ls ho hl) (fun q => kf (h.2 (fun z => q ((by have w := (zi_le hx1 zc0).mpr z; rw [zi_0] at w; exact w)))) H locs ls ho hl)
theorem z_if_eq {x : Int} {off : Int} {tgt : Nat} (C : zX E cc own D g rm nl) (d : decode cc pc = .ok (.ifCond .eq off, 3)) (ht : (pc : Int) + off = (tgt : Int)) (hx1 : zc x) {P1 P2 : Prop} (h : (x = 0 → P1) ∧ (¬ x = 0 → P2)) (kt : P1 → zW E OK k n tgt L st σ) (kf : P2 → zW E OK k n (pc + 3) L st σ) : zW E OK k n pc L (.int (zi x) :: st) σ := by
  obtain ⟨p, l, e, R, s, m, args, below, meth, c, nL, Z⟩ := E
  obtain ⟨⟨hx, hb, hml, hown, hts⟩, hK, hR, hN⟩ := C
  intro H locs ls ho hl
  exact lv_if_eq hx hb d ht (fun q => kt (h.1 ((zi_eq hx1 zc0).mp (by rw [zi_0]; exact q))) H locs ls ho hl) (fun q => kf (h.2 (fun z => q ((by have w := (zi_eq hx1 zc0).mpr z; rw [zi_0] at w; exact w)))) H locs ls ho hl)
theorem z_icmp_ne {x y : Int} {off : Int} {tgt : Nat} (C : zX E cc own D g rm nl) (d : decode cc pc = .ok (.if_icmp .ne off, 3)) (ht : (pc : Int) + off = (tgt : Int)) (hx1 : zc x) (hy1 : zc y) {P1 P2 : Prop} (h : (x = y → P1) ∧ (¬ x = y → P2)) (kt : P2 → zW E OK k n tgt L st σ) (kf : P1 → zW E OK k n (pc + 3) L st σ) : zW E OK k n pc L (.int (zi y) :: .int (zi x) :: st) σ := by
  obtain ⟨p, l, e, R, s, m, args, below, meth, c, nL, Z⟩ := E
  obtain ⟨⟨hx, hb, hml, hown, hts⟩, hK, hR, hN⟩ := C
  intro H locs ls ho hl
  exact lv_icmp_ne hx hb d ht (fun q => kt (h.2 (fun z => q ((zi_eq hx1 hy1).mpr z))) H locs ls ho hl) (fun q => kf (h.1 ((zi_eq hx1 hy1).mp (q))) H locs ls ho hl)
theorem z_if_ne {x : Int} {off : Int} {tgt : Nat} (C : zX E cc own D g rm nl) (d : decode cc pc = .ok (.ifCond .ne off, 3)) (ht : (pc : Int) + off = (tgt : Int)) (hx1 : zc x) {P1 P2 : Prop} (h : (x = 0 → P1) ∧ (¬ x = 0 → P2)) (kt : P2 → zW E OK k n tgt L st σ) (kf : P1 → zW E OK k n (pc + 3) L st σ) : zW E OK k n pc L (.int (zi x) :: st) σ := by
  obtain ⟨p, l, e, R, s, m, args, below, meth, c, nL, Z⟩ := E
  obtain ⟨⟨hx, hb, hml, hown, hts⟩, hK, hR, hN⟩ := C
  intro H locs ls ho hl
  exact lv_if_ne hx hb d ht (fun q => kt (h.2 (fun z => q ((by have w := (zi_eq hx1 zc0).mpr z; rw [zi_0] at w; exact w)))) H locs ls ho hl) (fun q => kf (h.1 ((zi_eq hx1 zc0).mp (by rw [zi_0]; exact q))) H locs ls ho hl)
/-- a number gets a name -/
theorem z_topi {x : Int} (kk : ∀ y : Int, y = x → zW E OK k n pc L (.int (zi y) :: st) σ) : zW E OK k n pc L (.int (zi x) :: st) σ := kk x rfl
theorem z_topj {x : Int} (kk : ∀ y : Int, y = x → zW E OK k n pc L (.long (zj y) :: st) σ) : zW E OK k n pc L (.long (zj x) :: st) σ := kk x rfl
end ZR
