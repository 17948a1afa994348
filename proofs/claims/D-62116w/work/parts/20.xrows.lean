/-! rows of CellMapper's side: fields of any object of the world, nodes, references that may be null -/
section ZG
variable {E : zE} {k n pc : Nat} {L L' : List (Nat × Value)} {st : List Value} {σ : zS} {cc : ByteArray} {own : String} {D : va_G} {g : zG} {rm : Room} {nl : Nat} {A : Nat → Prop} {ad : zA}
theorem g_get {t : zT} {ci j N index : Nat} {fs : List Value} {Cn ref : String} {T : u_T} {v : Value} (C : zX E cc own D g rm nl) (ht : t ∈ zids σ) (hct : ct g ad σ t = .inr (ci, fs)) (hc : classes[ci]? = some (Cn, T, N)) (hin : ∀ w ∈ u_ws Cn T N, w ∈ lw_g) (hj : j < N) (hd : (T j).1 = ref) (hlink : Cond.fieldLink own index ref (T j).2.1 (T j).2.2.1 ∈ lw_g) (hv : fs[j]? = some v) (d : decode cc pc = .ok (.getfield index, 3))
    (kk : zW E (zOK D A (zst E) g ad) k n (pc + 3) L (v :: st) σ) : zW E (zOK D A (zst E) g ad) k n pc L (.ref (ad t) :: st) σ := by
  obtain ⟨p, l, e, R, s, m, args, below, meth, c, nL, Z⟩ := E
  obtain ⟨⟨hx, hb, hml, hown, hts⟩, hK, hR, hN⟩ := C
  intro H locs ls ho hl
  obtain ⟨hP, hD, hS⟩ := ho
  obtain ⟨q, -, hq⟩ := gw_get (ad := ad) (ct := ct g ad σ) ht
  rw [hct] at hq
  exact va_get hx hb hts hin hown hK hP q hq hc j hj (hts _ hlink) (fun _ h9 => by rw [hd] at h9; exact h9) hv d (kk H locs ls ⟨hP, hD, hS⟩ hl)
theorem g_put {t : zT} {ci j N index : Nat} {fs : List Value} {Cn ref : String} {T : u_T} {v : Value} {ty : Nat → FieldType} {τ : zS} (C : zX E cc own D g rm nl) (ht : t ∈ zids σ) (hct : ct g ad σ t = .inr (ci, fs)) (hc : classes[ci]? = some (Cn, T, N)) (hin : ∀ w ∈ u_ws Cn T N, w ∈ lw_g) (hty : ∀ k, k < N → parseFieldDescriptor (T k).2.2.1 = some (ty k)) (hnm : ∀ a, a < N → ∀ b, b < N → a ≠ b → (T a).2.1 ≠ (T b).2.1) (hj : j < N) (hd : (T j).1 = ref) (hlink : Cond.fieldLink own index ref (T j).2.1 (T j).2.2.1 ∈ lw_g) (hfin : (T j).2.2.2 = false) (hn : narrow (ty j) v = v ∧ fits (ty j) v = true) (hl0 : j < fs.length) (hids : zids τ = zids σ) (hls : ∀ k, 40 ≤ k → k ≤ 47 → τ k = σ k) (hat : ct g ad τ t = .inr (ci, fs.set j v)) (hne : ∀ u ∈ zids σ, u ≠ t → ct g ad τ u = ct g ad σ u) (d : decode cc pc = .ok (.putfield index, 3))
    (kk : zW E (zOK D A (zst E) g ad) k n (pc + 3) L st τ) : zW E (zOK D A (zst E) g ad) k n pc L (v :: .ref (ad t) :: st) σ := by
  obtain ⟨p, l, e, R, s, m, args, below, meth, c, nL, Z⟩ := E
  obtain ⟨⟨hx, hb, hml, hown, hts⟩, hK, hR, hN⟩ := C
  intro H locs ls ho hl
  obtain ⟨hP, hD, hS⟩ := ho
  obtain ⟨q, hi, hq⟩ := gw_get (ad := ad) (ct := ct g ad σ) ht
  rw [hct] at hq
  refine va_put hx hb hts hin ty hty hnm hown hK hP (zD_va hD _) hS q hq hc j hj (hts _ hlink) (fun _ h9 => by rw [hd] at h9; exact h9) hfin (hty j hj) hn.1 hn.2 hl0 d (fun H1 locs1 hP1 _ hS1 => ?_)
  rw [gw_set (zD_va hD _) hi hat hne] at hP1
  exact kk H1 locs1 ls ⟨by unfold zP; rw [hids]; exact hP1, zD_ids hids hls hD, hS1⟩ hl
/-- a final field, in its constructor -/
theorem g_putF {t : zT} {ci j N index : Nat} {fs : List Value} {Cn : String} {T : u_T} {v : Value} {ty : Nat → FieldType} {τ : zS} (C : zX E cc own D g rm nl) (hin2 : E.2.2.2.2.2.2.2.2.1.name = "<init>") (ht : t ∈ zids σ) (hct : ct g ad σ t = .inr (ci, fs)) (hc : classes[ci]? = some (Cn, T, N)) (hin : ∀ w ∈ u_ws Cn T N, w ∈ lw_g) (hty : ∀ k, k < N → parseFieldDescriptor (T k).2.2.1 = some (ty k)) (hnm : ∀ a, a < N → ∀ b, b < N → a ≠ b → (T a).2.1 ≠ (T b).2.1) (hj : j < N) (hd : (T j).1 = own) (hlink : Cond.fieldLink own index own (T j).2.1 (T j).2.2.1 ∈ lw_g) (hfin : (T j).2.2.2 = true) (hn : narrow (ty j) v = v ∧ fits (ty j) v = true) (hl0 : j < fs.length) (hids : zids τ = zids σ) (hls : ∀ k, 40 ≤ k → k ≤ 47 → τ k = σ k) (hat : ct g ad τ t = .inr (ci, fs.set j v)) (hne : ∀ u ∈ zids σ, u ≠ t → ct g ad τ u = ct g ad σ u) (d : decode cc pc = .ok (.putfield index, 3))
    (kk : zW E (zOK D A (zst E) g ad) k n (pc + 3) L st τ) : zW E (zOK D A (zst E) g ad) k n pc L (v :: .ref (ad t) :: st) σ := by
  obtain ⟨p, l, e, R, s, m, args, below, meth, c, nL, Z⟩ := E
  obtain ⟨⟨hx, hb, hml, hown, hts⟩, hK, hR, hN⟩ := C
  intro H locs ls ho hl
  obtain ⟨hP, hD, hS⟩ := ho
  obtain ⟨q, hi, hq⟩ := gw_get (ad := ad) (ct := ct g ad σ) ht
  rw [hct] at hq
  refine va_putF hx hb hts hin ty hty hnm hown hK hP (zD_va hD _) hS q hq hc j hj (hts _ hlink) (fun _ h9 => by rw [hd] at h9; exact h9) hfin hin2 hd (hty j hj) hn.1 hn.2 hl0 d (fun H1 locs1 hP1 _ hS1 => ?_)
  rw [gw_set (zD_va hD _) hi hat hne] at hP1
  exact kk H1 locs1 ls ⟨by unfold zP; rw [hids]; exact hP1, zD_ids hids hls hD, hS1⟩ hl
/-- references that may be null -/
theorem zr_cat (ad : zA) (t : Nat) (v : Int) : (zr ad t v).category = 1 := by
  unfold zr zro
  split <;> rfl
theorem zr_cases (ad : zA) (t : Nat) (v : Int) : (v < 0 ∧ zr ad t v = .null) ∨ (0 ≤ v ∧ zr ad t v = .ref (ad (t, v.toNat))) := by
  rcases Int.lt_or_le v 0 with h | h
  · exact Or.inl ⟨h, zr_n ad t h⟩
  · exact Or.inr ⟨h, zr_s ad t h⟩
theorem zr_fit (ad : zA) (t : Nat) (v : Int) (c : String) : narrow (.object c) (zr ad t v) = zr ad t v ∧ fits (.object c) (zr ad t v) = true := by
  rcases zr_cases ad t v with ⟨-, h⟩ | ⟨-, h⟩ <;> rw [h] <;> exact ⟨rfl, rfl⟩
variable {OK : zS → Heap → List Loc → Prop}
theorem z_aloadZ_n {j : Fin 4} {t : Nat} {x : Int} (C : zX E cc own D g rm nl) (d : decode cc pc = .ok (.aload_n j, 1)) (q : Nat) (hq : L[q]? = some ((j : Nat), zr ad t x)) (kk : zW E OK k n (pc + 1) L (zr ad t x :: st) σ) : zW E OK k n pc L st σ := by
  obtain ⟨p, l, e, R, s, m, args, below, meth, c, nL, Z⟩ := E
  obtain ⟨⟨hx, hb, hml, hown, hts⟩, hK, hR, hN⟩ := C
  intro H locs ls ho hl
  have h := lv_at hl q hq
  have kk := kk H locs ls ho hl
  rcases zr_cases ad t x with ⟨-, e⟩ | ⟨-, e⟩ <;> rw [e] at h kk
  · exact lv_aload_nN hx hb d rfl h kk
  · exact lv_aload_n hx hb d rfl h kk
theorem z_aloadZ {j : Nat} {t : Nat} {x : Int} (C : zX E cc own D g rm nl) (d : decode cc pc = .ok (.aload j, 2)) (q : Nat) (hq : L[q]? = some (j, zr ad t x)) (kk : zW E OK k n (pc + 2) L (zr ad t x :: st) σ) : zW E OK k n pc L st σ := by
  obtain ⟨p, l, e, R, s, m, args, below, meth, c, nL, Z⟩ := E
  obtain ⟨⟨hx, hb, hml, hown, hts⟩, hK, hR, hN⟩ := C
  intro H locs ls ho hl
  have h := lv_at hl q hq
  have kk := kk H locs ls ho hl
  rcases zr_cases ad t x with ⟨-, e⟩ | ⟨-, e⟩ <;> rw [e] at h kk
  · exact lv_aloadN hx hb d h kk
  · exact lv_aload hx hb d h kk
theorem z_astoreZ_n {j : Fin 4} {t : Nat} {x : Int} (C : zX E cc own D g rm nl) (d : decode cc pc = .ok (.astore_n j, 1)) (hn : (j : Nat) < nl) (hf : ((j : Nat), zr ad t x) :: L.filter (fun q => !(q.1 == (j : Nat)) && !(q.1 + 1 == (j : Nat) && q.2.category == 2)) = L') (kk : zW E OK k n (pc + 1) L' st σ) : zW E OK k n pc L (zr ad t x :: st) σ := by
  obtain ⟨p, l, e, R, s, m, args, below, meth, c, nL, Z⟩ := E
  obtain ⟨⟨hx, hb, hml, hown, hts⟩, hK, hR, hN⟩ := C
  intro H locs ls ho hl
  subst hN
  rcases zr_cases ad t x with ⟨-, e⟩ | ⟨-, e⟩ <;> rw [e] at hf ⊢
  · exact lv_astore_nN hx hb d rfl hl hn hf (fun ls' hl' => kk H locs ls' ho hl')
  · exact lv_astore_n hx hb d rfl hl hn hf (fun ls' hl' => kk H locs ls' ho hl')
theorem z_astoreZ {j : Nat} {t : Nat} {x : Int} (C : zX E cc own D g rm nl) (d : decode cc pc = .ok (.astore j, 2)) (hn : j < nl) (hf : (j, zr ad t x) :: L.filter (fun q => !(q.1 == j) && !(q.1 + 1 == j && q.2.category == 2)) = L') (kk : zW E OK k n (pc + 2) L' st σ) : zW E OK k n pc L (zr ad t x :: st) σ := by
  obtain ⟨p, l, e, R, s, m, args, below, meth, c, nL, Z⟩ := E
  obtain ⟨⟨hx, hb, hml, hown, hts⟩, hK, hR, hN⟩ := C
  intro H locs ls ho hl
  subst hN
  rcases zr_cases ad t x with ⟨-, e⟩ | ⟨-, e⟩ <;> rw [e] at hf ⊢
  · exact lv_astoreN hx hb d hl hn hf (fun ls' hl' => kk H locs ls' ho hl')
  · exact lv_astore hx hb d hl hn hf (fun ls' hl' => kk H locs ls' ho hl')
theorem z_ifnull {t : Nat} {x off : Int} {tgt : Nat} {P1 P2 : Prop} (C : zX E cc own D g rm nl) (d : decode cc pc = .ok (.ifnull off, 3)) (ht : (pc : Int) + off = (tgt : Int)) (h : (x < 0 → P1) ∧ (¬ x < 0 → P2)) (kt : P1 → zW E OK k n tgt L st σ) (kf : P2 → zW E OK k n (pc + 3) L st σ) : zW E OK k n pc L (zr ad t x :: st) σ := by
  obtain ⟨p, l, e, R, s, m, args, below, meth, c, nL, Z⟩ := E
  obtain ⟨⟨hx, hb, hml, hown, hts⟩, hK, hR, hN⟩ := C
  intro H locs ls ho hl
  rcases zr_cases ad t x with ⟨q, e⟩ | ⟨q, e⟩ <;> rw [e]
  · exact lv_ifnullN hx hb d ht (kt (h.1 q) H locs ls ho hl)
  · exact lv_ifnull hx hb d (kf (h.2 (by omega)) H locs ls ho hl)
theorem z_ifnonnull {t : Nat} {x off : Int} {tgt : Nat} {P1 P2 : Prop} (C : zX E cc own D g rm nl) (d : decode cc pc = .ok (.ifnonnull off, 3)) (ht : (pc : Int) + off = (tgt : Int)) (h : (x < 0 → P1) ∧ (¬ x < 0 → P2)) (kt : P2 → zW E OK k n tgt L st σ) (kf : P1 → zW E OK k n (pc + 3) L st σ) : zW E OK k n pc L (zr ad t x :: st) σ := by
  obtain ⟨p, l, e, R, s, m, args, below, meth, c, nL, Z⟩ := E
  obtain ⟨⟨hx, hb, hml, hown, hts⟩, hK, hR, hN⟩ := C
  intro H locs ls ho hl
  rcases zr_cases ad t x with ⟨q, e⟩ | ⟨q, e⟩ <;> rw [e]
  · exact lv_ifnonnullN hx hb d (kf (h.1 q) H locs ls ho hl)
  · exact lv_ifnonnull hx hb d ht (kt (h.2 (by omega)) H locs ls ho hl)
theorem z_nullZ (t : Nat) (C : zX E cc own D g rm nl) (d : decode cc pc = .ok (.aconst_null, 1)) (kk : zW E OK k n (pc + 1) L (zr ad t (-1) :: st) σ) : zW E OK k n pc L st σ := by
  rw [zr_n ad t (by decide)] at kk
  exact z_null C d kk
/-- a reference of the node family: null, or a node -/
abbrev zvn (σ : zS) (x : Int) : Prop := x = -1 ∨ (0 ≤ x ∧ x < σ 70 0)
theorem zro_inj (hD : zD A ad σ) {x y : Int} (h1 : zvn σ x) (h2 : zvn σ y) : zro ad 4 x = zro ad 4 y ↔ x = y := by
  constructor
  · intro h
    unfold zro at h
    rcases h1 with rfl | ⟨a1, a2⟩ <;> rcases h2 with rfl | ⟨b1, b2⟩
    · rfl
    · rw [if_pos (by decide), if_neg (by omega)] at h
      cases h
    · rw [if_neg (by omega), if_pos (by decide)] at h
      cases h
    · rw [if_neg (by omega), if_neg (by omega)] at h
      have := hD.1 _ (zids_node a1 a2) _ (zids_node b1 b2) (Option.some.inj h)
      have h3 : x.toNat = y.toNat := congrArg Prod.snd this
      omega
  · intro h; rw [h]
theorem z_acmp_ne {x y off : Int} {tgt : Nat} {P1 P2 : Prop} (C : zX E cc own D g rm nl) (d : decode cc pc = .ok (.if_acmp .ne off, 3)) (ht : (pc : Int) + off = (tgt : Int)) (h1 : zvn σ x) (h2 : zvn σ y) (h : (x = y → P1) ∧ (¬ x = y → P2)) (kt : P2 → zW E (zOK D A (zst E) g ad) k n tgt L st σ) (kf : P1 → zW E (zOK D A (zst E) g ad) k n (pc + 3) L st σ) : zW E (zOK D A (zst E) g ad) k n pc L (zr ad 4 y :: zr ad 4 x :: st) σ := by
  obtain ⟨p, l, e, R, s, m, args, below, meth, c, nL, Z⟩ := E
  obtain ⟨⟨hx, hb, hml, hown, hts⟩, hK, hR, hN⟩ := C
  intro H locs ls ho hl
  have hi := zro_inj ho.2.1 h1 h2
  exact lv_acmp_ne hx hb d ht (fun q => kt (h.2 (fun z => q (hi.mpr z))) H locs ls ho hl) (fun q => kf (h.1 (hi.mp q)) H locs ls ho hl)
theorem z_acmp_eq {x y off : Int} {tgt : Nat} {P1 P2 : Prop} (C : zX E cc own D g rm nl) (d : decode cc pc = .ok (.if_acmp .eq off, 3)) (ht : (pc : Int) + off = (tgt : Int)) (h1 : zvn σ x) (h2 : zvn σ y) (h : (x = y → P1) ∧ (¬ x = y → P2)) (kt : P1 → zW E (zOK D A (zst E) g ad) k n tgt L st σ) (kf : P2 → zW E (zOK D A (zst E) g ad) k n (pc + 3) L st σ) : zW E (zOK D A (zst E) g ad) k n pc L (zr ad 4 y :: zr ad 4 x :: st) σ := by
  obtain ⟨p, l, e, R, s, m, args, below, meth, c, nL, Z⟩ := E
  obtain ⟨⟨hx, hb, hml, hown, hts⟩, hK, hR, hN⟩ := C
  intro H locs ls ho hl
  have hi := zro_inj ho.2.1 h1 h2
  exact lv_acmp_eq hx hb d ht (fun q => kt (h.1 (hi.mp q)) H locs ls ho hl) (fun q => kf (h.2 (fun z => q (hi.mpr z))) H locs ls ho hl)
end ZG
