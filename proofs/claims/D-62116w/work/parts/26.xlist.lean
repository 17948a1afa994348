/-! lists: size and get -/
def lst (l : Nat) : Nat := if l = 5 then 5 else 4
section ZLS
variable {E : zE} {k n pc : Nat} {L L' : List (Nat × Value)} {st : List Value} {σ : zS} {cc : ByteArray} {own : String} {D : va_G} {g : zG} {rm : Room} {nl : Nat} {A : Nat → Prop} {ad : zA}
theorem z_ls (kk : zLs σ → zW E (zOK D A (zst E) g ad) k n pc L st σ) : zW E (zOK D A (zst E) g ad) k n pc L st σ := by
  obtain ⟨p, l, e, R, s, m, args, below, meth, c, nL, Z⟩ := E
  intro H locs ls ho hl
  exact kk ho.2.1.2.2.2 H locs ls ho hl
theorem x_ald2 {i : Int} (C : zX E cc own D g rm nl) (l : Nat) (hl6 : l < 6) (hc : 0 < σ 47 l) (h0 : 0 ≤ i) (h1 : i < σ 47 l) (h2 : σ 47 l ≤ 1000) (d : decode cc pc = .ok (.aaload, 1))
    (kk : zW E (zOK D A (zst E) g ad) k n (pc + 1) L (zr ad (lst l) (σ (41 + l) i) :: st) σ) : zW E (zOK D A (zst E) g ad) k n pc L (.int (zi i) :: .ref (ad (2, l)) :: st) σ := by
  obtain ⟨p, l0, e, R, s, m, args, below, meth, c, nL, Z⟩ := E
  obtain ⟨⟨hx, hb, hml, hown, hts⟩, hK, hR, hN⟩ := C
  intro H locs ls ho hl
  obtain ⟨hP, hD, hS⟩ := ho
  obtain ⟨q, -, hq⟩ := gw_get (ad := ad) (ct := ct g ad σ) (zids_ea (σ := σ) hl6 hc)
  refine va_aldq (cA := g.1 3) (n := (σ 47 l).toNat) (f := fun x => zro ad (lst l) (σ (41 + l) x)) hx hb hK hP q 3 hq rfl (zi_in h0 (by omega) (by omega)) d ?_
  rw [zi_cl h0 (by omega), Int.toNat_of_nonneg h0]
  exact kk H locs ls ⟨hP, hD, hS⟩ hl
theorem x_getL {index : Nat} {v : Value} (C : zX E cc own D g rm nl) (l j : Nat) (hl : l < 6) (hj : j < 3) (hv : (ctL g ad σ l)[j]? = some v) (hd : (F_AL j).1 = "java/util/ArrayList") (hlink : Cond.fieldLink own index "java/util/ArrayList" (F_AL j).2.1 (F_AL j).2.2.1 ∈ lw_g) (d : decode cc pc = .ok (.getfield index, 3))
    (kk : zW E (zOK D A (zst E) g ad) k n (pc + 3) L (v :: st) σ) : zW E (zOK D A (zst E) g ad) k n pc L (.ref (ad (1, l)) :: st) σ :=
  g_get (T := F_AL) (ci := 0) (fs := ctL g ad σ l) C (zids_fix (zfix_l hl)) rfl rfl i_AL hj hd hlink hv d kk
theorem d_AL_size_0 : decode b_AL_size 0 = .ok (.aload_n 0, 1) := by decide +kernel
theorem d_AL_size_1 : decode b_AL_size 1 = .ok (.getfield 48, 3) := by decide +kernel
theorem d_AL_size_4 : decode b_AL_size 4 = .ok (.ireturn, 1) := by decide +kernel
theorem d_AL_get_0 : decode b_AL_get 0 = .ok (.iload_n 1, 1) := by decide +kernel
theorem d_AL_get_1 : decode b_AL_get 1 = .ok (.aload_n 0, 1) := by decide +kernel
theorem d_AL_get_2 : decode b_AL_get 2 = .ok (.getfield 48, 3) := by decide +kernel
theorem d_AL_get_5 : decode b_AL_get 5 = .ok (.invokestatic 118, 3) := by decide +kernel
theorem d_AL_get_8 : decode b_AL_get 8 = .ok (.pop, 1) := by decide +kernel
theorem d_AL_get_9 : decode b_AL_get 9 = .ok (.aload_n 0, 1) := by decide +kernel
theorem d_AL_get_10 : decode b_AL_get 10 = .ok (.iload_n 1, 1) := by decide +kernel
theorem d_AL_get_11 : decode b_AL_get 11 = .ok (.invokevirtual 123, 3) := by decide +kernel
theorem d_AL_get_14 : decode b_AL_get 14 = .ok (.areturn, 1) := by decide +kernel
theorem d_AL_elementData_0 : decode b_AL_elementData 0 = .ok (.aload_n 0, 1) := by decide +kernel
theorem d_AL_elementData_1 : decode b_AL_elementData 1 = .ok (.getfield 9, 3) := by decide +kernel
theorem d_AL_elementData_4 : decode b_AL_elementData 4 = .ok (.iload_n 1, 1) := by decide +kernel
theorem d_AL_elementData_5 : decode b_AL_elementData 5 = .ok (.aaload, 1) := by decide +kernel
theorem d_AL_elementData_6 : decode b_AL_elementData 6 = .ok (.areturn, 1) := by decide +kernel
theorem d_OB_checkIndex_0 : decode b_OB_checkIndex 0 = .ok (.iload_n 0, 1) := by decide +kernel
theorem d_OB_checkIndex_1 : decode b_OB_checkIndex 1 = .ok (.iload_n 1, 1) := by decide +kernel
theorem d_OB_checkIndex_2 : decode b_OB_checkIndex 2 = .ok (.aconst_null, 1) := by decide +kernel
theorem d_OB_checkIndex_3 : decode b_OB_checkIndex 3 = .ok (.invokestatic 105, 3) := by decide +kernel
theorem d_OB_checkIndex_6 : decode b_OB_checkIndex 6 = .ok (.ireturn, 1) := by decide +kernel
theorem d_PR_checkIndex_0 : decode b_PR_checkIndex 0 = .ok (.iload_n 0, 1) := by decide +kernel
theorem d_PR_checkIndex_1 : decode b_PR_checkIndex 1 = .ok (.ifCond .lt 8, 3) := by decide +kernel
theorem d_PR_checkIndex_4 : decode b_PR_checkIndex 4 = .ok (.iload_n 0, 1) := by decide +kernel
theorem d_PR_checkIndex_5 : decode b_PR_checkIndex 5 = .ok (.iload_n 1, 1) := by decide +kernel
theorem d_PR_checkIndex_6 : decode b_PR_checkIndex 6 = .ok (.if_icmp .lt 10, 3) := by decide +kernel
theorem d_PR_checkIndex_16 : decode b_PR_checkIndex 16 = .ok (.iload_n 0, 1) := by decide +kernel
theorem d_PR_checkIndex_17 : decode b_PR_checkIndex 17 = .ok (.ireturn, 1) := by decide +kernel
theorem c_PR_checkIndex (l : Launch) (D : va_G) (g : zG) (ad : zA) (i m : Int) (Q : Int → zS → Prop) (σ : zS) (h0 : 0 ≤ i) (h1 : i < m) (hm : zc m) (h : Q i σ) : zGi l y_PR_checkIndex b_PR_checkIndex 3 (some .int) { frames := 0, cells := 0, slots := 0, locals := 0 } D g ad σ [.int (zi i), .int (zi m), .null] Q := by
  refine zN_of (by decide) (Nat.le_of_ble_eq_true rfl) (fun E C R S => ?_)
  refine z_sub (L' := [(0, .int (zi i)), (1, .int (zi m))]) [0, 1] rfl ?_
  have hi : zc i := by omega
  refine z_iload_n C d_PR_checkIndex_0 0 rfl ?_
  refine z_if_lt (tgt := 9) C (pc := 1) d_PR_checkIndex_1 (by decide) hi ⟨fun q => (show False by omega), fun q => q⟩ (fun q => q.elim) (fun _ => ?_)
  refine z_iload_n C (pc := 4) d_PR_checkIndex_4 0 rfl ?_
  refine z_iload_n C (pc := 5) d_PR_checkIndex_5 1 rfl ?_
  refine z_icmp_lt (tgt := 16) C (pc := 6) d_PR_checkIndex_6 (by decide) hi hm ⟨fun q => q, fun q => (show False by omega)⟩ (fun _ => ?_) (fun q => q.elim)
  refine z_iload_n C (pc := 16) d_PR_checkIndex_16 0 rfl ?_
  exact z_iret C R d_PR_checkIndex_17 h
theorem c_OB_checkIndex (l : Launch) (D : va_G) (g : zG) (ad : zA) (i m : Int) (Q : Int → zS → Prop) (σ : zS) (h0 : 0 ≤ i) (h1 : i < m) (hm : zc m) (h : Q i σ) : zGi l y_OB_checkIndex b_OB_checkIndex 2 (some .int) { frames := 1, cells := 0, slots := 0, locals := 22 } D g ad σ [.int (zi i), .int (zi m)] Q := by
  refine zN_of (by decide) (Nat.le_of_ble_eq_true rfl) (fun E C R S => ?_)
  refine z_sub (L' := [(0, .int (zi i)), (1, .int (zi m))]) [0, 1] rfl ?_
  refine z_iload_n C d_OB_checkIndex_0 0 rfl ?_
  refine z_iload_n C (pc := 1) d_OB_checkIndex_1 1 rfl ?_
  refine z_null C (pc := 2) d_OB_checkIndex_2 ?_
  refine x_callSi (As := [.int (zi i), .int (zi m), .null]) C S fs_PR_checkIndex wd_313 (pc := 3) d_OB_checkIndex_3 ⟨rfl, rfl, Nat.le_of_ble_eq_true rfl, Nat.le_of_ble_eq_true rfl⟩ rfl rfl (Nat.le_of_ble_eq_true rfl) h (fun h => c_PR_checkIndex (zln E) D g ad i m Q σ h0 h1 hm h) (fun r τ h => ?_)
  exact z_iret C R d_OB_checkIndex_6 h
theorem c_AL_size (lc : Launch) (D : va_G) (g : zG) (ad : zA) (l : Nat) (hl : l < 6) (Q : Int → zS → Prop) (σ : zS) (h : Q (σ 40 l) σ) : zGi lc y_AL_size b_AL_size 1 (some .int) { frames := 0, cells := 0, slots := 0, locals := 0 } D g ad σ [.ref (ad (1, l))] Q := by
  refine zN_of (by decide) (Nat.le_of_ble_eq_true rfl) (fun E C R S => ?_)
  have C : zX E b_AL_size "java/util/ArrayList" D g { frames := 0, cells := 0, slots := 0, locals := 0 } 1 := C
  refine z_sub (L' := [(0, .ref (ad (1, l)))]) [0] rfl ?_
  refine z_aload_n C d_AL_size_0 0 rfl ?_
  refine x_getL (v := .int (zi (σ 40 l))) C l 1 hl (by decide) rfl rfl wd_51 (pc := 1) d_AL_size_1 ?_
  exact z_iret C R d_AL_size_4 h
theorem c_AL_elementData (lc : Launch) (D : va_G) (g : zG) (ad : zA) (l : Nat) (hl : l < 6) (i : Int) (Q : Int → zS → Prop) (σ : zS) (h0 : 0 ≤ i) (h1 : i < σ 40 l) (h : Q (σ (41 + l) i) σ) : zGr (lst l) lc y_AL_elementData b_AL_elementData 2 (some (.object "java/lang/Object")) { frames := 0, cells := 0, slots := 0, locals := 0 } D g ad σ [.ref (ad (1, l)), .int (zi i)] Q := by
  refine zN_of (by decide) (Nat.le_of_ble_eq_true rfl) (fun E C R S => ?_)
  have C : zX E b_AL_elementData "java/util/ArrayList" D g { frames := 0, cells := 0, slots := 0, locals := 0 } 2 := C
  refine z_sub (L' := [(0, .ref (ad (1, l))), (1, .int (zi i))]) [0, 1] rfl ?_
  refine z_ls (fun hls => ?_)
  obtain ⟨q1, q2, q3, -⟩ := hls l hl
  refine z_aload_n C d_AL_elementData_0 0 rfl ?_
  refine x_getL (v := .ref (ad (2, l))) C l 0 hl (by decide) (by rw [ctL, if_pos (by omega)]; rfl) rfl wd_50 (pc := 1) d_AL_elementData_1 ?_
  refine z_iload_n C (pc := 4) d_AL_elementData_4 1 rfl ?_
  refine x_ald2 C l hl (by omega) h0 (by omega) q3 (pc := 5) d_AL_elementData_5 ?_
  exact z_aret C R (Or.inl ⟨_, rfl⟩) d_AL_elementData_6 h
theorem c_AL_get (lc : Launch) (D : va_G) (g : zG) (ad : zA) (l : Nat) (hl : l < 6) (i : Int) (Q : Int → zS → Prop) (σ : zS) (h0 : 0 ≤ i) (h1 : i < σ 40 l) (h : Q (σ (41 + l) i) σ) : zGr (lst l) lc y_AL_get b_AL_get 2 (some (.object "java/lang/Object")) { frames := 2, cells := 0, slots := 0, locals := 43 } D g ad σ [.ref (ad (1, l)), .int (zi i)] Q := by
  refine zN_of (by decide) (Nat.le_of_ble_eq_true rfl) (fun E C R S => ?_)
  have C : zX E b_AL_get "java/util/ArrayList" D g { frames := 2, cells := 0, slots := 0, locals := 43 } 2 := C
  refine z_sub (L' := [(0, .ref (ad (1, l))), (1, .int (zi i))]) [0, 1] rfl ?_
  refine z_ls (fun hls => ?_)
  obtain ⟨q1, q2, q3, -⟩ := hls l hl
  refine z_iload_n C d_AL_get_0 1 rfl ?_
  refine z_aload_n C (pc := 1) d_AL_get_1 0 rfl ?_
  refine x_getL (v := .int (zi (σ 40 l))) C l 1 hl (by decide) rfl rfl wd_51 (pc := 2) d_AL_get_2 ?_
  refine x_callSi (As := [.int (zi i), .int (zi (σ 40 l))]) (Q := fun _ τ => τ = σ) C S fs_OB_checkIndex wd_310 (pc := 5) d_AL_get_5 ⟨rfl, rfl, Nat.le_of_ble_eq_true rfl, Nat.le_of_ble_eq_true rfl⟩ rfl rfl (Nat.le_of_ble_eq_true rfl) h (fun h => c_OB_checkIndex (zln E) D g ad i (σ 40 l) _ σ h0 h1 (by omega) rfl) (fun r τ e => ?_)
  subst e
  refine z_pop C (pc := 8) d_AL_get_8 rfl ?_
  refine z_aload_n C (pc := 9) d_AL_get_9 0 rfl ?_
  refine z_iload_n C (pc := 10) d_AL_get_10 1 rfl ?_
  refine x_callVr (As := [.int (zi i)]) C S fy_AL_elementData (1, l) (zids_fix (zfix_l hl)) rfl rfl wd_316 (pc := 11) d_AL_get_11 ⟨rfl, rfl, Nat.le_of_ble_eq_true rfl, Nat.le_of_ble_eq_true rfl⟩ rfl rfl (Nat.le_of_ble_eq_true rfl) h (fun h => c_AL_elementData (zln E) D g ad l hl i Q τ h0 h1 h) (fun r τ h => ?_)
  exact z_aret C R (Or.inl ⟨_, rfl⟩) d_AL_get_14 h
theorem x_size {index : Nat} {P : Prop} (C : zX E cc own D g rm nl) (S : zSt g A (zst E) (zst E).heap) (l : Nat) (hl : l < 6) (hlink : Cond.methodLink own index y_AL_size ∈ lw_g) (hR : 1 ≤ rm.frames ∧ 20 ≤ rm.locals) (hst : (st.map fun v => v.category).sum ≤ 8) (d : decode cc pc = .ok (.invokevirtual index, 3))
    (kk : zW E (zOK D A (zst E) g ad) k n (pc + 3) L (.int (zi (σ 40 l)) :: st) σ) (hkn : k ≤ rm.cells ∧ n ≤ rm.slots := by exact ⟨Nat.zero_le _, Nat.zero_le _⟩) : zW E (zOK D A (zst E) g ad) k n pc L (.ref (ad (1, l)) :: st) σ := by
  refine x_callVi (hkn := hkn) (As := []) (Q := fun r τ => r = σ 40 l ∧ τ = σ) (P := True) (rm2 := { frames := 0, cells := 0, slots := 0, locals := 0 }) C S fy_AL_size (1, l) (zids_fix (zfix_l hl)) rfl rfl hlink d ⟨rfl, rfl, by show 1 ≤ rm.frames; exact hR.1, by show 20 ≤ rm.locals; exact hR.2⟩ rfl rfl hst trivial (fun _ => c_AL_size (zln E) D g ad l hl _ σ ⟨rfl, rfl⟩) (fun r τ h => ?_)
  obtain ⟨rfl, rfl⟩ := h
  exact kk
theorem x_lget {index : Nat} {i : Int} (C : zX E cc own D g rm nl) (S : zSt g A (zst E) (zst E).heap) (l : Nat) (hl : l < 6) (h0 : 0 ≤ i) (h1 : i < σ 40 l) (hlink : Cond.methodLink own index y_AL_get ∈ lw_g) (hR : 3 ≤ rm.frames ∧ 64 ≤ rm.locals) (hst : (st.map fun v => v.category).sum ≤ 8) (d : decode cc pc = .ok (.invokevirtual index, 3))
    (kk : zW E (zOK D A (zst E) g ad) k n (pc + 3) L (zr ad (lst l) (σ (41 + l) i) :: st) σ) (hkn : k ≤ rm.cells ∧ n ≤ rm.slots := by exact ⟨Nat.zero_le _, Nat.zero_le _⟩) : zW E (zOK D A (zst E) g ad) k n pc L (.int (zi i) :: .ref (ad (1, l)) :: st) σ := by
  refine x_callVr (hkn := hkn) (As := [.int (zi i)]) (Q := fun r τ => r = σ (41 + l) i ∧ τ = σ) (P := True) (rm2 := { frames := 2, cells := 0, slots := 0, locals := 43 }) C S fy_AL_get (1, l) (zids_fix (zfix_l hl)) rfl rfl hlink d ⟨rfl, rfl, by show 3 ≤ rm.frames; exact hR.1, by show 64 ≤ rm.locals; exact hR.2⟩ rfl rfl hst trivial (fun _ => c_AL_get (zln E) D g ad l hl i _ σ h0 h1 ⟨rfl, rfl⟩) (fun r τ h => ?_)
  obtain ⟨rfl, rfl⟩ := h
  exact kk
end ZLS
