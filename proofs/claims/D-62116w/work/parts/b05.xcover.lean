/-! x's cover: what is chosen -/
def chs (σ : zS) (L : Gr) (pt : Int → Pat) (C cl : Int → Int) (i : Int) : Prop := 1 ≤ C i ∧ C i ≤ 1000 * (i + 1) ∧ 0 ≤ cl i ∧ cl i < σ 40 5 ∧ C i = σ 22 (cl i) + xlS σ L C (pt (cl i)) i 1 ∧ (∀ c : Int, 0 ≤ c → c < σ 40 5 → C i ≤ σ 22 c + xlS σ L C (pt c) i 1) ∧ ∀ c : Int, 0 ≤ c → c < cl i → C i < σ 22 c + xlS σ L C (pt c) i 1
def lib (σ : zS) (k : Int) : Prop := ∃ c : Int, 0 ≤ c ∧ c < σ 40 5 ∧ σ 21 c = k
theorem pat6 {P : Pat} (hp : pok P) (h : dval (pdig P) = 6) : P = .neg (.var 0) := by
  cases P with
  | var i => simp [pdig, dval] at h
  | neg p =>
    cases p with
    | var i => simp only [pok] at hp; rw [hp]
    | neg q =>
      simp only [pdig, dval] at h
      have := (dval_ge _ (pdig_13 q hp)).1
      omega
    | add q r =>
      simp only [pdig, dval] at h
      have := (dval_ge (pdig q ++ pdig r) (fun d hd => (List.mem_append.mp hd).elim (pdig_13 q hp.1 d) (pdig_13 r hp.2 d))).1
      omega
    | num _ => exact hp.elim
    | sub _ _ => exact hp.elim
    | mulL _ _ => exact hp.elim
    | mulR _ _ => exact hp.elim
  | add q r =>
    simp only [pdig, dval] at h
    omega
  | num _ => exact hp.elim
  | sub _ _ => exact hp.elim
  | mulL _ _ => exact hp.elim
  | mulR _ _ => exact hp.elim
theorem pat23 {P : Pat} (hp : pok P) (h : dval (pdig P) = 23) : P = .add (.var 0) (.var 0) := by
  have one : ∀ q : Pat, pok q → ∀ l, (∀ d ∈ l, 1 ≤ d ∧ d ≤ (3 : Int)) → dval (pdig q ++ l) % 4 = 1 → q = .var 0 ∧ dval (pdig q ++ l) = 1 + 4 * dval l := by
    intro q hq l hl h1
    cases q with
    | var i => simp only [pok] at hq; rw [hq]; exact ⟨rfl, rfl⟩
    | neg q => simp only [pdig, List.cons_append, dval] at h1; omega
    | add q r => simp only [pdig, List.cons_append, dval] at h1; omega
    | num _ => exact hq.elim
    | sub _ _ => exact hq.elim
    | mulL _ _ => exact hq.elim
    | mulR _ _ => exact hq.elim
  cases P with
  | var i => simp [pdig, dval] at h
  | neg p => simp only [pdig, dval] at h; omega
  | add q r =>
    simp only [pdig, dval] at h
    have h5 : dval (pdig q ++ pdig r) = 5 := by omega
    obtain ⟨e1, e2⟩ := one q hp.1 (pdig r) (pdig_13 r hp.2) (by omega)
    have h6 : dval (pdig r ++ []) = 1 := by rw [List.append_nil]; omega
    obtain ⟨e3, -⟩ := one r hp.2 [] (fun d hd => by simp at hd) (by omega)
    rw [e1, e3]
  | num _ => exact hp.elim
  | sub _ _ => exact hp.elim
  | mulL _ _ => exact hp.elim
  | mulR _ _ => exact hp.elim
/-- an inner node that nobody below v reads -/
def phA (σ : zS) (L : Gr) (v i : Int) : Prop := LV σ L i ∧ 2 ≤ σ 1 i ∧ ro σ L i = 0 ∧ ∀ k : Int, 0 ≤ k → k < v → ¬ (LV σ L k ∧ prt σ k i)
noncomputable def phi (σ : zS) (L : Gr) (C : Int → Int) (v : Int) : Int := zsum (fun i => ind (phA σ L v i) * C i) v.toNat
noncomputable def inC (σ : zS) (L : Gr) (C : Int → Int) (i : Int) : Int := if 2 ≤ σ 1 i ∧ ro σ L i = 0 then C i else 0
theorem ind_mul {P : Prop} {c : Int} (h : P → 0 ≤ c) : 0 ≤ ind P * c := by
  by_cases q : P
  · rw [ind_t q, Int.one_mul]; exact h q
  · rw [ind_f q, Int.zero_mul]; exact Int.le_refl _
theorem ph_rd {σ : zS} {L : Gr} {pt : Int → Pat} (h : BW σ L pt) {v i : Int} (v0 : 0 ≤ v) (v1 : v < L.length) (hv : LV σ L v) (hp : prt σ v i) (hi : 2 ≤ σ 1 i ∧ ro σ L i = 0) : phA σ L v i := by
  refine ⟨LV.dn v0 v1 hv hp, hi.1, hi.2, fun k k0 k1 q => ?_⟩
  have := cnt_two (p := fun k => LV σ L k ∧ prt σ k i) L.length k0 (by omega) q v0 v1 ⟨hv, hp⟩ (by omega)
  have h2 := hi.2
  unfold ro at h2
  rw [ind_t ⟨hi.1, Or.inr (by unfold usN; omega)⟩] at h2
  omega
theorem ph_step {σ : zS} {L : Gr} {pt : Int → Pat} (h : BW σ L pt) {C : Int → Int} {v : Int} (v0 : 0 ≤ v) (v1 : v < L.length) (hv : LV σ L v) (hk : 2 ≤ σ 1 v) (hC : ∀ i : Int, 0 ≤ i → i < v → LV σ L i → 2 ≤ σ 1 i → 0 ≤ C i) : zsum (fun i => ind (phA σ L (v + 1) i) * C i) v.toNat + inC σ L C (σ 2 v) + (if σ 1 v = 2 then inC σ L C (σ 3 v) else 0) ≤ phi σ L C v := by
  have nd := h.nd v0 v1
  have e : ((v.toNat : Nat) : Int) = v := by omega
  have le : ∀ i : Int, 0 ≤ i → i < (v.toNat : Int) → ind (phA σ L (v + 1) i) * C i ≤ ind (phA σ L v i) * C i := fun i i0 i1 => by
    by_cases q : phA σ L (v + 1) i
    · have q2 : phA σ L v i := ⟨q.1, q.2.1, q.2.2.1, fun k k0 k1 => q.2.2.2 k k0 (by omega)⟩
      rw [ind_t q, ind_t q2]
      exact Int.le_refl _
    · rw [ind_f q, Int.zero_mul]
      exact ind_mul (fun r => hC i i0 (by omega) r.1 r.2.1)
  have at' : ∀ i : Int, 0 ≤ i → i < v → prt σ v i → ind (phA σ L (v + 1) i) * C i + inC σ L C i ≤ ind (phA σ L v i) * C i := fun i i0 i1 hp => by
    have no : ¬ phA σ L (v + 1) i := fun q => q.2.2.2 v v0 (by omega) ⟨hv, hp⟩
    rw [ind_f no, Int.zero_mul, Int.zero_add]
    unfold inC
    split
    · rename_i hh
      rw [ind_t (ph_rd h v0 v1 hv hp hh), Int.one_mul]
      exact Int.le_refl _
    · exact ind_mul (fun r => hC i i0 i1 r.1 r.2.1)
  unfold phi
  by_cases k2 : σ 1 v = 2
  · rw [if_pos k2]
    exact zsum_le2 _ le (by omega) (by omega) (by omega) (by omega) (by omega) (at' _ (by omega) (by omega) ⟨hk, by omega, Or.inl rfl⟩) (at' _ (by omega) (by omega) ⟨hk, by omega, Or.inr rfl⟩)
  · rw [if_neg k2, Int.add_zero]
    exact zsum_le1 _ le (by omega) (by omega) (at' _ (by omega) (by omega) ⟨hk, by omega, Or.inl rfl⟩)
def xcvr (σ τ : zS) (L : Gr) (pt : Int → Pat) : Prop := xr σ τ L ∧ (∀ i : Int, 0 ≤ i → i < L.length → τ 11 i = 0 ∧ τ 16 i = 0) ∧ (∀ i : Int, LV σ L i → 2 ≤ σ 1 i → chs σ L pt (τ 13) (τ 14) i) ∧ (∀ i : Int, 0 ≤ i → i < L.length → ¬ (LV σ L i ∧ 2 ≤ σ 1 i) → τ 14 i = -1) ∧ zsm [9, 10, 11, 12, 13, 14, 16] σ τ
theorem lv_dpt {σ : zS} {L : Gr} {pt : Int → Pat} (h : BW σ L pt) {v n : Int} (n0 : 0 ≤ n) (n1 : n < L.length) (hv : LV σ L n) (hnv : n ≤ v) : dpt (σ 1) (σ 2) (σ 3) (fun i => LV σ L i ∧ 0 ≤ i ∧ i < v) n := by
  have nd := h.nd n0 n1
  refine ⟨fun q => ⟨⟨LV.dn n0 n1 hv ⟨by omega, by omega, Or.inl rfl⟩, by omega, by omega⟩, ⟨LV.dn n0 n1 hv ⟨by omega, by omega, Or.inr rfl⟩, by omega, by omega⟩⟩, fun q => ⟨LV.dn n0 n1 hv ⟨by omega, by omega, Or.inl rfl⟩, by omega, by omega⟩⟩
theorem sx_cover {σ : zS} {L : Gr} {pt : Int → Pat} {Q : zS → Prop} (h : BW σ L pt) (hu : ¬ und σ L) (l6 : lib σ 6) (l23 : lib σ 23) (hQ : ∀ τ, xcvr σ τ L pt → Q τ) : wp_CX_cover Q σ := by
  have e40 := h.e40
  have e70 := h.e70
  have hl := h.len
  refine sx_live h hu (fun τ0 hx => ?_)
  obtain ⟨x1, x2⟩ := hx
  refine lp_for (lp := fun n v a => lp_CX_cover_221 Q n v a) (fun v τ => 0 ≤ v ∧ zsm [13, 14] τ0 τ ∧ (∀ i : Int, 0 ≤ i → i < v → LV σ L i → 2 ≤ σ 1 i → chs σ L pt (τ 13) (τ 14) i) ∧ (∀ i : Int, 0 ≤ i → i < L.length → (¬ (LV σ L i ∧ 2 ≤ σ 1 i) ∨ v ≤ i) → τ 14 i = -1) ∧ phi σ L (τ 13) v ≤ 1000 * v) (L.length : Int) (fun n v τ hv hI nx => ?_) 0 τ0 (by omega) ⟨by omega, zsm.rf, fun i i0 i1 => absurd i1 (by omega), fun i i0 i1 _ => (x2 i i0 i1).2.2.2.2.1, by simp [phi, zsum]⟩
  obtain ⟨v0, ts, hch, h14, hph⟩ := hI
  have T : zsm [9, 10, 11, 12, 13, 14, 16] σ τ := (x1.mono (by decide)).trans (ts.mono (by decide))
  have tr : xr σ τ L := ⟨T.mono (by decide), fun i i0 i1 => by
    obtain ⟨a1, a2, a3, a4, a5, a6⟩ := x2 i i0 i1
    rw [ts 9 (by decide), ts 10 (by decide), ts 12 (by decide)]
    exact ⟨a1, a2, a4⟩⟩
  unfold lp_CX_cover_221
  rw [T 40 (by decide), T 41 (by decide), T 70 (by decide), T 1 (by decide)]
  refine ⟨by omega, by omega, fun q => ?_, fun q => ?_⟩
  · refine hQ τ ⟨tr, fun i i0 i1 => ?_, fun i hi hk => ?_, fun i i0 i1 hn => h14 i i0 i1 (Or.inl hn), T⟩
    · rw [ts 11 (by decide), ts 16 (by decide)]
      exact ⟨(x2 i i0 i1).2.2.1, (x2 i i0 i1).2.2.2.2.2⟩
    · have := LV_b h hu hi
      exact hch i this.1 (by omega) hi hk
  · have v1 : v < L.length := by omega
    have nd := h.nd v0 v1
    have h9 := (tr.2 v v0 v1).1
    have l01 := ind_01 (LV σ L v)
    rw [nd.2.2.2.1]
    refine ⟨v0, by omega, v0, by omega, ?_⟩
    intro y hy
    rw [hy]
    have skip : ¬ (LV σ L v ∧ 2 ≤ σ 1 v) → lp_CX_cover_221 Q n (v + 1) τ := fun hno => nx (by omega) τ ⟨by omega, ts, fun i i0 i1 li ki => ?_, fun i i0 i1 hc => ?_, ?_⟩
    rotate_left
    · by_cases e : i = v
      · rw [e] at li ki
        exact absurd ⟨li, ki⟩ hno
      · exact hch i i0 (by omega) li ki
    · rcases hc with hc | hc
      · exact h14 i i0 i1 (Or.inl hc)
      · exact h14 i i0 i1 (Or.inr (by omega))
    · unfold phi at hph ⊢
      rw [show (v + 1).toNat = v.toNat + 1 by omega]
      simp only [zsum]
      rw [show ((v.toNat : Nat) : Int) = v by omega, ind_f (fun q : phA σ L (v + 1) v => hno ⟨q.1, q.2.1⟩), Int.zero_mul, Int.add_zero]
      have : zsum (fun i => ind (phA σ L (v + 1) i) * τ 13 i) v.toNat ≤ zsum (fun i => ind (phA σ L v i) * τ 13 i) v.toNat := zsum_le _ (fun i i0 i1 => by
        by_cases q : phA σ L (v + 1) i
        · have q2 : phA σ L v i := ⟨q.1, q.2.1, q.2.2.1, fun k k0 k1 => q.2.2.2 k k0 (by omega)⟩
          rw [ind_t q, ind_t q2]
          exact Int.le_refl _
        · rw [ind_f q, Int.zero_mul]
          exact ind_mul (fun r => by have := (hch i i0 (by omega) r.1 r.2.1).1; omega))
      omega
    refine ⟨by omega, fun q2 => skip (fun q3 => by rw [h9, ind_t q3.1] at q2; omega), fun q2 => ⟨by omega, by omega, fun q3 => skip (fun q4 => ?_), fun q3 => ?_⟩⟩
    · unfold lgc at q3
      rw [if_pos q4.2] at q3
      omega
    · have hk2 : 2 ≤ σ 1 v := Classical.byContradiction fun q4 => q3 (by unfold lgc; rw [if_neg q4])
      have hlv : LV σ L v := Classical.byContradiction fun q4 => q2 (by rw [h9, ind_f q4])
      have hD : ∀ i, (LV σ L i ∧ 0 ≤ i ∧ i < v) → 0 ≤ i ∧ i < L.length := fun i hi => ⟨hi.2.1, by omega⟩
      have hd : ∀ i, (LV σ L i ∧ 0 ≤ i ∧ i < v) → dpt (σ 1) (σ 2) (σ 3) (fun i => LV σ L i ∧ 0 ≤ i ∧ i < v) i := fun i hi => lv_dpt h hi.2.1 (by omega) hi.1 (by omega)
      have hCb : ∀ i, (LV σ L i ∧ 0 ≤ i ∧ i < v) → 2 ≤ σ 1 i → 1 ≤ τ 13 i ∧ τ 13 i ≤ 48000 := fun i hi k => by
        obtain ⟨c1, c2, -⟩ := hch i hi.2.1 hi.2.2 hi.1 k
        omega
      have hC : ∀ i, (LV σ L i ∧ 0 ≤ i ∧ i < v) → 2 ≤ σ 1 i → ro σ L i = 0 → 0 ≤ τ 13 i ∧ τ 13 i ≤ 268435456 := fun i hi k _ => by
        have := hCb i hi k
        omega
      have hn := lv_dpt h v0 v1 hlv (Int.le_refl v)
      refine sx_choose (D := fun i => LV σ L i ∧ 0 ≤ i ∧ i < v) h tr hD hd hC v0 v1 hn (fun q => by omega) (fun υ us ui ule ubest => ?_)
      -- what it costs at most
      have st := ph_step h v0 v1 hlv hk2 (C := τ 13) (fun i i0 i1 li ki => by have := (hch i i0 i1 li ki).1; omega)
      have zg : 0 ≤ zsum (fun i => ind (phA σ L (v + 1) i) * τ 13 i) v.toNat := by
        have := zsum_le (f := fun _ => 0) (g := fun i => ind (phA σ L (v + 1) i) * τ 13 i) v.toNat (fun i i0 i1 => ind_mul (fun r => by have := (hch i i0 (by omega) r.1 r.2.1).1; omega))
        rw [zsum_const] at this
        simpa using this
      have top : υ 13 v ≤ 1000 + inC σ L (τ 13) (σ 2 v) + (if σ 1 v = 2 then inC σ L (τ 13) (σ 3 v) else 0) := by
        by_cases k2 : σ 1 v = 2
        · rw [if_pos k2]
          obtain ⟨c, c0, c1, c2⟩ := l23
          have ce := h.cel c c0 c1
          obtain ⟨p1, p2, p3, p4, p5, p6⟩ := h.cpt c c0 c1
          have ep := pat23 p1 (by omega)
          have hle := ule c c0 c1
          have hxl : xlS σ L (τ 13) (pt c) v 1 ≤ inC σ L (τ 13) (σ 2 v) + inC σ L (τ 13) (σ 3 v) := by
            rw [ep, xlS, xl_add, if_pos ⟨k2, Or.inl (by decide)⟩]
            have : xst (σ 1) (σ 2) (σ 3) (ro σ L) (τ 13) (.var 0) (.var 0) v ≤ inC σ L (τ 13) (σ 2 v) + inC σ L (τ 13) (σ 3 v) := by
              simp only [xst, xl]
              unfold inC
              split <;> omega
            split <;> omega
          unfold cv at hle
          split at hle <;> omega
        · have k3 : σ 1 v = 3 := by omega
          rw [if_neg k2, Int.add_zero]
          obtain ⟨c, c0, c1, c2⟩ := l6
          have ce := h.cel c c0 c1
          obtain ⟨p1, p2, p3, p4, p5, p6⟩ := h.cpt c c0 c1
          have ep := pat6 p1 (by omega)
          have hle := ule c c0 c1
          have hxl : xlS σ L (τ 13) (pt c) v 1 = inC σ L (τ 13) (σ 2 v) := by
            rw [ep]
            simp only [xlS, xl]
            rw [if_pos ⟨k3, Or.inl (by decide)⟩]
            rfl
          unfold cv at hle
          split at hle <;> omega
      have u48 : υ 13 v ≤ 1000 * (v + 1) := by omega
      rcases ubest with b | ⟨b1, b2, b3, b4, b5⟩
      · omega
      · have ce := h.cel (υ 14 v) b1 b2
        have cvx : ∀ C' : Int → Int, (∀ i : Int, LV σ L i → 0 ≤ i → i < v → C' i = τ 13 i) → ∀ c : Int, 0 ≤ c → c < σ 40 5 → xlS σ L C' (pt c) v 1 = xlS σ L (τ 13) (pt c) v 1 := fun C' hC' c c0 c1 => by
          obtain ⟨p1, p2, -⟩ := h.cpt c c0 c1
          exact xl_congr hd (fun i hi _ _ => hC' i hi.1 hi.2.1 hi.2.2) (pt c) v 1 (Or.inr ⟨isv_of p1 p2, hn⟩)
        have uC : ∀ i : Int, LV σ L i → 0 ≤ i → i < v → υ 13 i = τ 13 i := fun i _ i0 i1 => (ui i (by omega)).1
        have old : ∀ i : Int, 0 ≤ i → i < v → LV σ L i → 2 ≤ σ 1 i → chs σ L pt (υ 13) (υ 14) i := fun i i0 i1 li ki => by
          obtain ⟨g1, g2, g3, g4, g5, g6, g7⟩ := hch i i0 i1 li ki
          have hn' := lv_dpt h i0 (by omega) li (show i ≤ v by omega)
          have ex : ∀ c : Int, 0 ≤ c → c < σ 40 5 → xlS σ L (υ 13) (pt c) i 1 = xlS σ L (τ 13) (pt c) i 1 := fun c c0 c1 => by
            obtain ⟨p1, p2, -⟩ := h.cpt c c0 c1
            exact xl_congr hd (fun j hj _ _ => uC j hj.1 hj.2.1 hj.2.2) (pt c) i 1 (Or.inr ⟨isv_of p1 p2, hn'⟩)
          unfold chs
          rw [(ui i (by omega)).1, (ui i (by omega)).2, ex _ g3 g4]
          exact ⟨g1, g2, g3, g4, g5, fun c c0 c1 => by rw [ex c c0 c1]; exact g6 c c0 c1, fun c c0 c1 => by rw [ex c c0 (by omega)]; exact g7 c c0 c1⟩
        have e3 : υ 13 v = σ 22 (υ 14 v) + xlS σ L (τ 13) (pt (υ 14 v)) v 1 := by
          unfold cv at b3
          split at b3 <;> omega
        obtain ⟨p1', p2', -⟩ := h.cpt _ b1 b2
        have xg := (xlS_b hd hC (pt (υ 14 v)) v 1 (Or.inr ⟨isv_of p1' p2', hn⟩)).1
        refine nx (by omega) υ ⟨by omega, ts.trans us, fun i i0 i1 li ki => ?_, fun i i0 i1 hc => ?_, ?_⟩
        · by_cases e : i = v
          · subst e
            unfold chs
            rw [cvx _ uC _ b1 b2]
            refine ⟨by omega, u48, b1, b2, e3, fun c c0 c1 => ?_, fun c c0 c1 => ?_⟩
            · rw [cvx _ uC c c0 c1]
              have := ule c c0 c1
              unfold cv at this
              split at this <;> omega
            · rw [cvx _ uC c c0 (by omega)]
              have := b5 c c0 c1
              unfold cv at this
              split at this <;> omega
          · exact old i i0 (by omega) li ki
        · have e : i ≠ v := by
            rintro rfl
            rcases hc with hc | hc
            · exact hc ⟨hlv, hk2⟩
            · omega
          rw [(ui i e).2]
          rcases hc with hc | hc
          · exact h14 i i0 i1 (Or.inl hc)
          · exact h14 i i0 i1 (Or.inr (by omega))
        · have eq : zsum (fun i => ind (phA σ L (v + 1) i) * υ 13 i) v.toNat = zsum (fun i => ind (phA σ L (v + 1) i) * τ 13 i) v.toNat := zsum_congr _ (fun i i0 i1 => by rw [(ui i (by omega)).1])
          show zsum (fun i => ind (phA σ L (v + 1) i) * υ 13 i) (v + 1).toNat ≤ 1000 * (v + 1)
          rw [show (v + 1).toNat = v.toNat + 1 by omega]
          simp only [zsum]
          rw [show ((v.toNat : Nat) : Int) = v by omega, eq]
          have : ind (phA σ L (v + 1) v) * υ 13 v ≤ υ 13 v := by
            rcases ind_01 (phA σ L (v + 1) v) with e | e <;> rw [e] <;> omega
          omega
