/-! x's connect: gates and connections -/
noncomputable def plS (σ : zS) (L : Gr) (pt : Int → Pat) (C cl : Int → Int) (k : Int) : List Int := xpS σ L C (pt (cl k)) k
def GT (σ : zS) (L : Gr) (pt : Int → Pat) (C cl : Int → Int) (i : Int) : Prop := ∀ P : Int → Prop, (∀ j, RT σ L j → P j) → (∀ k j, P k → 2 ≤ σ 1 j → j ∈ plS σ L pt C cl k → P j) → P i
section
variable {σ : zS} {L : Gr} {pt : Int → Pat} {C cl : Int → Int}
theorem GT.rt {i : Int} (h : RT σ L i) : GT σ L pt C cl i := fun _ h1 _ => h1 i h
theorem GT.dn {k i : Int} (h : GT σ L pt C cl k) (hk : 2 ≤ σ 1 i) (hi : i ∈ plS σ L pt C cl k) : GT σ L pt C cl i := fun P h1 h2 => h2 k i (h P h1 h2) hk hi
theorem GT.inv {i : Int} (h : GT σ L pt C cl i) : RT σ L i ∨ ∃ k, GT σ L pt C cl k ∧ 2 ≤ σ 1 i ∧ i ∈ plS σ L pt C cl k :=
  (h (fun i => GT σ L pt C cl i ∧ (RT σ L i ∨ ∃ k, GT σ L pt C cl k ∧ 2 ≤ σ 1 i ∧ i ∈ plS σ L pt C cl k)) (fun j hj => ⟨GT.rt hj, Or.inl hj⟩) (fun k j hk hj hm => ⟨GT.dn hk.1 hj hm, Or.inr ⟨k, hk.1, hj, hm⟩⟩)).2
/-- all live logic is chosen for -/
def chA (σ : zS) (L : Gr) (pt : Int → Pat) (C cl : Int → Int) : Prop := ∀ i : Int, LV σ L i → 2 ≤ σ 1 i → chs σ L pt C cl i
theorem lvD (h : BW σ L pt) (hu : ¬ und σ L) (v : Int) : (∀ n, (LV σ L n ∧ 0 ≤ n ∧ n < v) → 0 ≤ n ∧ n < L.length) ∧ (∀ n, (LV σ L n ∧ 0 ≤ n ∧ n < v) → dpt (σ 1) (σ 2) (σ 3) (fun i => LV σ L i ∧ 0 ≤ i ∧ i < v) n) := ⟨fun n hn => LV_b h hu hn.1, fun n hn => lv_dpt h hn.2.1 (LV_b h hu hn.1).2 hn.1 (by omega)⟩
theorem lvC (h : BW σ L pt) (hu : ¬ und σ L) (hc : chA σ L pt C cl) (v : Int) : ∀ n, (LV σ L n ∧ 0 ≤ n ∧ n < v) → 2 ≤ σ 1 n → ro σ L n = 0 → 0 ≤ C n ∧ C n ≤ 268435456 := fun n hn hk _ => by
  obtain ⟨c1, c2, -⟩ := hc n hn.1 hk
  have := LV_b h hu hn.1
  have := h.len
  omega
theorem ch_xl (h : BW σ L pt) (hu : ¬ und σ L) (hc : chA σ L pt C cl) {n : Int} (hn : LV σ L n) (hk : 2 ≤ σ 1 n) : 0 ≤ cl n ∧ cl n < σ 40 5 ∧ xlS σ L C (pt (cl n)) n 1 < 268435456 := by
  obtain ⟨c1, c2, c3, c4, c5, -⟩ := hc n hn hk
  have := h.cel _ c3 c4
  have := LV_b h hu hn
  have := h.len
  exact ⟨c3, c4, by omega⟩
theorem pl_b (h : BW σ L pt) (hu : ¬ und σ L) (hc : chA σ L pt C cl) {n : Int} (hn : LV σ L n) (hk : 2 ≤ σ 1 n) : ((plS σ L pt C cl n).length : Int) = σ 24 (cl n) ∧ ∀ j ∈ plS σ L pt C cl n, LV σ L j ∧ 0 ≤ j ∧ j < n := by
  obtain ⟨c3, c4, hx⟩ := ch_xl h hu hc hn hk
  obtain ⟨p1, p2, p3, p4, p5, p6⟩ := h.cpt _ c3 c4
  have b := LV_b h hu hn
  have hl := xp_len (K := σ 1) (X := σ 2) (Y := σ 3) (ro := ro σ L) (C := C) (pt (cl n)) n p1
  refine ⟨?_, ?_⟩
  · unfold plS
    rw [p5]
    exact congrArg _ hl
  · exact xp_D (lvD h hu n).2 (lvC h hu hc n) (pt (cl n)) n 1 (Or.inr ⟨isv_of p1 p2, lv_dpt h b.1 b.2 hn (Int.le_refl _)⟩) hx
theorem GT.lv (h : BW σ L pt) (hu : ¬ und σ L) (hc : chA σ L pt C cl) {i : Int} (hg : GT σ L pt C cl i) : LV σ L i ∧ 2 ≤ σ 1 i :=
  hg (fun i => LV σ L i ∧ 2 ≤ σ 1 i) (fun j hj => ⟨hj.lv, hj.1⟩) (fun k j hk hj hm => ⟨((pl_b h hu hc hk.1 hk.2).2 j hm).1, hj⟩)
end
/-- where a connection ends -/
noncomputable def enS (σ : zS) (L : Gr) (pt : Int → Pat) (C cl : Int → Int) (k : Int) : Int := if k < 192 then (plS σ L pt C cl (k / 4)).getD (k % 4).toNat 0 else σ 45 (k - 192)
def lkS (σ : zS) (L : Gr) (pt : Int → Pat) (C cl : Int → Int) (k : Int) : Prop := (0 ≤ k ∧ k < 192 ∧ k / 4 < L.length ∧ GT σ L pt C cl (k / 4) ∧ k % 4 < σ 24 (cl (k / 4))) ∨ (192 ≤ k ∧ k < 192 + σ 40 4)
def lkV (σ τ : zS) (e k : Int) : Prop := τ 51 k = tno σ 7 e ∧ τ 52 k = twe σ 7 e ∧ τ 53 k = tbi σ 7 0 e
def lkN (τ : zS) (k : Int) : Prop := τ 51 k = -1 ∧ τ 52 k = 0 ∧ τ 53 k = 0
def xcon (σ τ : zS) (L : Gr) (pt : Int → Pat) (C cl : Int → Int) : Prop := (∀ i : Int, 0 ≤ i → i < L.length → τ 11 i = ind (GT σ L pt C cl i)) ∧ τ 57 0 = cnt (GT σ L pt C cl) L.length ∧ τ 58 0 = zsum (fun i => ind (GT σ L pt C cl i) * σ 22 (cl i)) L.length ∧ (∀ k : Int, 0 ≤ k → k < 196 → (lkS σ L pt C cl k → lkV σ τ (enS σ L pt C cl k) k) ∧ (¬ lkS σ L pt C cl k → lkN τ k)) ∧ ∀ k : Int, 0 ≤ k → zvn σ (τ 50 k) ∧ zvn σ (τ 51 k)
/-- marked by gates above v -/
def mkd (σ : zS) (L : Gr) (pt : Int → Pat) (C cl : Int → Int) (v i : Int) : Prop := (2 ≤ σ 1 i ∧ ro σ L i = 0) ∧ ∃ k : Int, v < k ∧ GT σ L pt C cl k ∧ i ∈ plS σ L pt C cl k
def gtA (σ : zS) (L : Gr) (pt : Int → Pat) (C cl : Int → Int) (v i : Int) : Prop := (v < i ∧ GT σ L pt C cl i) ∨ (i ≤ v ∧ mkd σ L pt C cl v i)
theorem sx_connect {σ τ0 : zS} {L : Gr} {pt : Int → Pat} {Q : zS → Prop} (h : BW σ L pt) (hu : ¬ und σ L) (hx : xcvr σ τ0 L pt) (hQ : ∀ τ, zsm [11, 50, 51, 52, 53, 57, 58] τ0 τ → xcon σ τ L pt (τ0 13) (τ0 14) → Q τ) : wp_CX_connect Q τ0 := by
  obtain ⟨xr0, x11, hch, x14, xs0⟩ := hx
  have e40 := h.e40
  have e70 := h.e70
  have hl := h.len
  have o0 := h.o0
  have o1 := h.o1
  have c3 := h.c3
  have c1 := h.c1
  have hchA : chA σ L pt (τ0 13) (τ0 14) := hch
  have w4 := h.wf.2.2.2.1
  generalize hC : τ0 13 = C at hQ hch hchA
  generalize hcl : τ0 14 = cl at hQ hch hchA x14
  rintro _ rfl _ rfl
  -- the places are cleared
  refine lp_for (lp := fun n v a => lp_CX_connect_12 Q n v a) (fun v τ => 0 ≤ v ∧ zsm [50, 51, 52, 53, 57, 58] τ0 τ ∧ τ 57 0 = 0 ∧ τ 58 0 = 0 ∧ (∀ k : Int, 0 ≤ k → k < v → lkN τ k) ∧ ∀ k : Int, 0 ≤ k → zvn σ (τ 50 k) ∧ zvn σ (τ 51 k)) 196 (fun n v τ hv hI nx => ?_) 0 _ (by decide) ⟨by omega, (zsm_up (by decide)).up (by decide), by rw [zup_ne _ _ _ _ (by decide), zup_at], zup_at _ _ _ _, fun k k0 k1 => absurd k1 (by omega), fun k k0 => by
    rw [zup_ne _ _ _ _ (by decide), zup_ne _ _ _ _ (by decide), zup_ne _ _ _ _ (by decide), zup_ne _ _ _ _ (by decide), xs0 50 (by decide), xs0 51 (by decide)]
    exact w4 k k0⟩
  obtain ⟨v0, ts, h57, h58, hN, hZ⟩ := hI
  unfold lp_CX_connect_12
  refine ⟨by omega, fun q => ?_, fun q => ⟨v0, by omega, ?_⟩⟩
  · clear nx
    have T : ∀ f, f ∉ [9, 10, 11, 12, 13, 14, 16, 50, 51, 52, 53, 57, 58] → τ f = σ f := fun f hf => (ts f (fun q => hf (by revert q; simp; omega))).trans (xs0 f (fun q => hf (by revert q; simp; omega)))
    rintro _ rfl
    rw [T 40 (by decide), e40]
    -- the gates
    refine lp_dn (lp := fun n v a => lp_CX_connect_65 Q n v a) (fun v τ => v < L.length ∧ zsm [11, 50, 51, 52, 53, 57, 58] τ0 τ ∧ (∀ i : Int, 0 ≤ i → i < L.length → τ 11 i = ind (gtA σ L pt C cl v i)) ∧ τ 57 0 = cnt (fun i => v < i ∧ GT σ L pt C cl i) L.length ∧ τ 58 0 = zsum (fun i => ind (v < i ∧ GT σ L pt C cl i) * σ 22 (cl i)) L.length ∧ (∀ k : Int, 0 ≤ k → k < 196 → ((k < 192 ∧ v < k / 4 ∧ lkS σ L pt C cl k) → lkV σ τ (enS σ L pt C cl k) k) ∧ (¬ (k < 192 ∧ v < k / 4 ∧ lkS σ L pt C cl k) → lkN τ k)) ∧ ∀ k : Int, 0 ≤ k → zvn σ (τ 50 k) ∧ zvn σ (τ 51 k)) (fun n v τ hv hI nx => ?_) _ τ (by omega) ⟨by omega, ts.mono (by decide), fun i i0 i1 => ?_, ?_, ?_, fun k k0 k1 => ⟨fun q2 => ?_, fun _ => hN k k0 (by omega)⟩, hZ⟩
    · obtain ⟨v1, ts, t11, t57, t58, tl, tz⟩ := hI
      have T : ∀ f, f ∉ [9, 10, 11, 12, 13, 14, 16, 50, 51, 52, 53, 57, 58] → τ f = σ f := fun f hf => (ts f (fun q => hf (by revert q; simp; omega))).trans (xs0 f (fun q => hf (by revert q; simp; omega)))
      have tr : ∀ τ', zsm [11, 50, 51, 52, 53, 57, 58] τ0 τ' → xr σ τ' L := fun τ' ts' => ⟨xr0.1.trans (ts'.mono (by decide)), fun i i0 i1 => by rw [ts' 9 (by decide), ts' 10 (by decide), ts' 12 (by decide)]; exact xr0.2 i i0 i1⟩
      unfold lp_CX_connect_65
      rw [T 40 (by decide), T 41 (by decide), T 70 (by decide)]
      refine ⟨by omega, fun q => ?_, fun q => ?_⟩
      · -- the outputs' connections
        have hv1 : v = -1 := by omega
        subst hv1
        clear nx
        have g11 : ∀ i : Int, 0 ≤ i → i < L.length → τ 11 i = ind (GT σ L pt C cl i) := fun i i0 i1 => by
          rw [t11 i i0 i1]
          exact ind_iff ⟨fun q => q.elim (fun q => q.2) (fun q => by omega), fun q => Or.inl ⟨by omega, q⟩⟩
        refine lp_for (lp := fun n v a => lp_CX_connect_233 Q n v a) (fun v υ => 0 ≤ v ∧ zsm [50, 51, 52, 53] τ υ ∧ (∀ k : Int, 0 ≤ k → k < 192 → υ 51 k = τ 51 k ∧ υ 52 k = τ 52 k ∧ υ 53 k = τ 53 k) ∧ (∀ k : Int, 0 ≤ k → k < v → lkV σ υ (σ 45 k) (192 + k)) ∧ (∀ k : Int, v ≤ k → k < 4 → lkN υ (192 + k)) ∧ ∀ k : Int, 0 ≤ k → zvn σ (υ 50 k) ∧ zvn σ (υ 51 k)) (σ 40 4) (fun n v υ hv hJ nx => ?_) 0 τ o0 ⟨by omega, zsm.rf, fun k _ _ => ⟨rfl, rfl, rfl⟩, fun k k0 k1 => absurd k1 (by omega), fun k k0 k1 => (tl (192 + k) (by omega) (by omega)).2 (fun q => by omega), tz⟩
        obtain ⟨v0, us, u1, u2, u3, uz⟩ := hJ
        have us' : zsm [11, 50, 51, 52, 53, 57, 58] τ0 υ := ts.trans (us.mono (by decide))
        have U : ∀ f, f ∉ [9, 10, 11, 12, 13, 14, 16, 50, 51, 52, 53, 57, 58] → υ f = σ f := fun f hf => (us' f (fun q => hf (by revert q; simp; omega))).trans (xs0 f (fun q => hf (by revert q; simp; omega)))
        unfold lp_CX_connect_233
        rw [U 40 (by decide), U 45 (by decide), U 70 (by decide)]
        refine ⟨by omega, by omega, fun q => ?_, fun q => ?_⟩
        · have hv4 : v = σ 40 4 := by omega
          subst hv4
          refine hQ υ us' ⟨fun i i0 i1 => by rw [us 11 (by decide)]; exact g11 i i0 i1, ?_, ?_, fun k k0 k1 => ?_, uz⟩
          · rw [us 57 (by decide), t57]
            exact cnt_congr _ (fun i i0 i1 => ⟨fun q => q.2, fun q => ⟨by omega, q⟩⟩)
          · rw [us 58 (by decide), t58]
            exact zsum_congr _ (fun i i0 i1 => by rw [ind_iff (show (-1 < i ∧ GT σ L pt C cl i) ↔ GT σ L pt C cl i from ⟨fun q => q.2, fun q => ⟨by omega, q⟩⟩)])
          · by_cases hk : k < 192
            · obtain ⟨b1, b2, b3⟩ := u1 k k0 hk
              obtain ⟨t1, t2⟩ := tl k k0 k1
              refine ⟨fun q2 => ?_, fun q2 => ?_⟩
              · unfold lkV
                rw [b1, b2, b3]
                exact t1 ⟨hk, by omega, q2⟩
              · unfold lkN
                rw [b1, b2, b3]
                exact t2 (fun q3 => q2 q3.2.2)
            · refine ⟨fun q2 => ?_, fun q2 => ?_⟩
              · have hk2 : k < 192 + σ 40 4 := by
                  rcases q2 with q2 | q2
                  · omega
                  · exact q2.2
                have := u2 (k - 192) (by omega) (by omega)
                rw [show 192 + (k - 192) = k by omega] at this
                unfold enS
                rw [if_neg hk]
                exact this
              · have := u3 (k - 192) (Classical.byContradiction fun q3 => q2 (Or.inr ⟨by omega, by omega⟩)) (by omega)
                rw [show 192 + (k - 192) = k by omega] at this
                exact this
        · have ho : 0 ≤ σ 45 v ∧ σ 45 v < L.length := pinP_b h hu (Or.inl ⟨v, v0, by omega, rfl⟩)
          refine ⟨v0, by omega, ho.1, by omega, by omega, by omega, ?_⟩
          rintro _ rfl
          have n3 := u3 v (Int.le_refl _) (by omega)
          refine sx_trace h hu (τ := zup υ 50 (192 + v) (σ 45 v)) (e := σ 45 v) ?_ (by omega) (by omega) (zup_at _ _ _ _) ho.1 ho.2 (by rw [zup_ne _ _ _ _ (by decide)]; exact n3.2.1) (by rw [zup_ne _ _ _ _ (by decide)]; exact n3.2.2) (fun ω ws wi w1 w2 w3 => ?_)
          · exact ((xs0.mono (by decide)).trans (us'.mono (by decide))).up (by decide)
          · refine nx (by omega) ω ⟨by omega, (us.up (by decide)).trans (ws.mono (by decide)), fun k k0 k1 => ?_, fun k k0 k1 => ?_, fun k k0 k1 => ?_, fun k k0 => ?_⟩
            · obtain ⟨b1, b2, b3⟩ := wi k (by omega)
              rw [b1, b2, b3, zup_ne _ _ _ _ (by decide), zup_ne _ _ _ _ (by decide), zup_ne _ _ _ _ (by decide)]
              exact u1 k k0 k1
            · by_cases e : k = v
              · rw [e]
                exact ⟨w1, w2, w3⟩
              · obtain ⟨b1, b2, b3⟩ := wi (192 + k) (by omega)
                unfold lkV
                rw [b1, b2, b3, zup_ne _ _ _ _ (by decide), zup_ne _ _ _ _ (by decide), zup_ne _ _ _ _ (by decide)]
                exact u2 k k0 (by omega)
            · obtain ⟨b1, b2, b3⟩ := wi (192 + k) (by omega)
              unfold lkN
              rw [b1, b2, b3, zup_ne _ _ _ _ (by decide), zup_ne _ _ _ _ (by decide), zup_ne _ _ _ _ (by decide)]
              exact u3 k (by omega) k1
            · rw [ws 50 (by decide), zup_or]
              refine ⟨?_, ?_⟩
              · split
                · exact Or.inr ⟨ho.1, by omega⟩
                · exact (uz k k0).1
              · by_cases e : k = 192 + v
                · rw [e, w1]
                  have := tno_b h hu 7 _ ho.1 ho.2
                  exact Or.inr ⟨this.1, by omega⟩
                · rw [(wi k e).1, zup_ne _ _ _ _ (by decide)]
                  exact (uz k k0).2
      · have v0 : 0 ≤ v := by omega
        have nd := h.nd v0 v1
        rw [nd.2.2.2.1]
        refine ⟨v0, by omega, v0, by omega, ?_⟩
        intro y hy
        rw [hy]
        have tv := t11 v v0 v1
        have tv01 := ind_01 (gtA σ L pt C cl v v)
        have gv : GT σ L pt C cl v ↔ (RT σ L v ∨ gtA σ L pt C cl v v) := by
          constructor
          · intro hg
            rcases hg.inv with q2 | ⟨k, k1, k2, k3⟩
            · exact Or.inl q2
            · by_cases hr : RT σ L v
              · exact Or.inl hr
              · have kl := k1.lv h hu hchA
                exact Or.inr (Or.inr ⟨Int.le_refl _, ⟨k2, ind_f hr⟩, k, ((pl_b h hu hchA kl.1 kl.2).2 v k3).2.2, k1, k3⟩)
          · rintro (q2 | (q2 | ⟨-, ⟨q2, -⟩, k, -, k1, k3⟩))
            · exact GT.rt q2
            · omega
            · exact GT.dn k1 q2 k3
        -- no gate
        have noG : ¬ GT σ L pt C cl v → bk_CX_connect_101 Q (lp_CX_connect_65 Q n) v v 0 v τ := fun hng => by
          refine ⟨v0, by rw [T 70 (by decide)]; omega, Or.inl rfl, ?_⟩
          rintro _ rfl
          refine ⟨v0, by rw [zup_ne _ _ _ _ (by decide), T 70 (by decide)]; omega, by rw [zup_at]; decide, fun _ => ?_, fun q2 => absurd (zup_at _ _ _ _) q2⟩
          refine nx v0 _ ⟨by omega, ts.up (by decide), fun i i0 i1 => ?_, ?_, ?_, fun k k0 k1 => ?_, fun k k0 => ?_⟩
          · have gA : gtA σ L pt C cl (v - 1) i ↔ (i ≠ v ∧ gtA σ L pt C cl v i) := by
              constructor
              · rintro (⟨a1, a2⟩ | ⟨a1, a2, k, a3, a4, a5⟩)
                · by_cases e : i = v
                  · rw [e] at a2; exact absurd a2 hng
                  · exact ⟨e, Or.inl ⟨by omega, a2⟩⟩
                · by_cases e : k = v
                  · rw [e] at a4; exact absurd a4 hng
                  · exact ⟨by omega, Or.inr ⟨by omega, a2, k, by omega, a4, a5⟩⟩
              · rintro ⟨e, ⟨a1, a2⟩ | ⟨a1, a2, k, a3, a4, a5⟩⟩
                · exact Or.inl ⟨by omega, a2⟩
                · exact Or.inr ⟨by omega, a2, k, by omega, a4, a5⟩
            rw [zup_or, ind_iff gA]
            by_cases e : i = v
            · rw [if_pos e, ind_f (fun q => q.1 e)]
            · rw [if_neg e, t11 i i0 i1]
              exact ind_iff ⟨fun q => ⟨e, q⟩, fun q => q.2⟩
          · rw [zup_ne _ _ _ _ (by decide), t57]
            exact cnt_congr _ (fun i i0 i1 => ⟨fun q => ⟨by omega, q.2⟩, fun q => by
              by_cases e : i = v
              · rw [e] at q
                exact absurd q.2 hng
              · exact ⟨by omega, q.2⟩⟩)
          · rw [zup_ne _ _ _ _ (by decide), t58]
            have hsh : ∀ i : Int, (v < i ∧ GT σ L pt C cl i) ↔ (v - 1 < i ∧ GT σ L pt C cl i) := fun i => ⟨fun q => ⟨by omega, q.2⟩, fun q => by
              by_cases e : i = v
              · rw [e] at q
                exact absurd q.2 hng
              · exact ⟨by omega, q.2⟩⟩
            exact zsum_congr _ (fun i i0 i1 => by rw [ind_iff (hsh i)])
          · obtain ⟨t1, t2⟩ := tl k k0 k1
            have nk : k < 192 → k / 4 = v → ¬ lkS σ L pt C cl k := fun q1 q2 q3 => by
              rcases q3 with q3 | q3
              · have := q3.2.2.2.1
                rw [q2] at this
                exact hng this
              · omega
            unfold lkV lkN
            rw [zup_ne _ _ _ _ (by decide), zup_ne _ _ _ _ (by decide), zup_ne _ _ _ _ (by decide)]
            refine ⟨fun q2 => t1 ⟨q2.1, ?_, q2.2.2⟩, fun q2 => t2 (fun q3 => q2 ⟨q3.1, by omega, q3.2.2⟩)⟩
            by_cases e : k / 4 = v
            · exact absurd q2.2.2 (nk q2.1 e)
            · omega
          · rw [zup_ne _ _ _ _ (by decide), zup_ne _ _ _ _ (by decide)]
            exact tz k k0
        -- a gate
        have yesG : GT σ L pt C cl v → bk_CX_connect_96 Q (lp_CX_connect_65 Q n) v v v τ := fun hg => by
          have gl := hg.lv h hu hchA
          obtain ⟨d1, d2, hxl⟩ := ch_xl h hu hchA gl.1 gl.2
          obtain ⟨p1, p2, p3, p4, p5, p6⟩ := h.cpt _ d1 d2
          have pn := h.pins d1 d2
          obtain ⟨pl1, pl2⟩ := pl_b h hu hchA gl.1 gl.2
          have ce := h.cel _ d1 d2
          have t14 : τ 14 v = cl v := by rw [ts 14 (by decide), hcl]
          refine ⟨v0, by rw [T 70 (by decide)]; omega, Or.inr rfl, ?_⟩
          rintro _ rfl
          refine ⟨v0, by rw [zup_ne _ _ _ _ (by decide), T 70 (by decide)]; omega, by rw [zup_at]; decide, fun q2 => absurd q2 (by rw [zup_at]; decide), fun _ => ?_⟩
          rw [zup_ne τ _ _ v (by decide), t14]
          refine ⟨fun q2 => absurd q2 (by omega), fun _ => ?_⟩
          rintro _ rfl
          rw [zup_ne _ _ _ v (by decide), zup_ne τ _ _ v (by decide), t14]
          refine ⟨d1, by rw [zup_ne _ _ _ _ (by decide), zup_ne _ _ _ _ (by decide), T 71 (by decide)]; omega, ?_⟩
          rintro _ rfl
          rw [zup_ne _ _ _ v (by decide), zup_ne _ _ _ v (by decide), zup_ne τ _ _ v (by decide), t14]
          refine ⟨d1, by rw [zup_ne _ _ _ _ (by decide), zup_ne _ _ _ _ (by decide), zup_ne _ _ _ _ (by decide), T 71 (by decide)]; omega, ?_⟩
          rw [zup_ne _ _ _ (cl v) (by decide), zup_ne _ _ _ (cl v) (by decide), zup_ne τ _ _ (cl v) (by decide), T 25 (by decide)]
          rw [zup_ne _ _ _ (cl v) (by decide), zup_ne τ _ _ (cl v) (by decide), T 22 (by decide), zup_ne τ _ _ 0 (by decide), zup_ne _ _ _ 0 (by decide), zup_ne τ _ _ 0 (by decide)]
          -- the state before bind
          generalize hω : zup (zup (zup τ 11 v 1) 57 0 (τ 57 0 + 1)) 58 0 (τ 58 0 + σ 22 (cl v)) = ω
          have ws : zsm [11, 57, 58] τ ω := by
            rw [← hω]
            exact ((zsm_up (by decide)).up (by decide)).up (by decide)
          have w11 : ∀ i : Int, ω 11 i = if i = v then 1 else τ 11 i := fun i => by rw [← hω, zup_ne _ _ _ _ (by decide), zup_ne _ _ _ _ (by decide), zup_or]
          have w57 : ω 57 0 = τ 57 0 + 1 := by rw [← hω, zup_ne _ _ _ _ (by decide), zup_at]
          have w58 : ω 58 0 = τ 58 0 + σ 22 (cl v) := by rw [← hω, zup_at]
          have ws' : zsm [11, 50, 51, 52, 53, 57, 58] τ0 ω := ts.trans (ws.mono (by decide))
          have LD := lvD h hu v
          refine sx_bind h LD.1 LD.2 (lvC h hu hchA v) (pt (cl v)) 8 _ 0 v 1 (4 * v) ω _ (tr ω ws') (by rw [ws' 13 (by decide), hC]) p1 (by omega) p6 v0 v1 (Or.inr ⟨isv_of p1 p2, lv_dpt h v0 v1 gl.1 (Int.le_refl _)⟩) hxl (by omega) (by omega) (by omega) ?_
          rw [Int.add_zero]
          have bsm := bwr_sm (plS σ L pt C cl v) ω (4 * v)
          have bat := bwr_at (plS σ L pt C cl v) ω (4 * v)
          show ∀ y39, y39 = 4 * v → ∃ u168, lp_CX_connect_168 Q (lp_CX_connect_65 Q n) u168 v v y39 (bwr ω (4 * v) (plS σ L pt C cl v))
          rintro _ rfl
          generalize bwr ω (4 * v) (plS σ L pt C cl v) = β at bsm bat
          have b50 : ∀ p : Int, 0 ≤ p → p < σ 24 (cl v) → β 50 (4 * v + p) = (plS σ L pt C cl v).getD p.toNat 0 := fun p q0 q1 => by
            rw [bat, if_pos (by omega), show (4 * v + p - 4 * v).toNat = p.toNat by omega]
          have pmem : ∀ p : Int, 0 ≤ p → p < σ 24 (cl v) → (plS σ L pt C cl v).getD p.toNat 0 ∈ plS σ L pt C cl v := fun p q0 q1 => by
            have hp : p.toNat < (plS σ L pt C cl v).length := by omega
            rw [List.getD_eq_getElem?_getD, List.getElem?_eq_getElem hp]
            exact List.getElem_mem hp
          have bz : ∀ k : Int, 0 ≤ k → zvn σ (β 50 k) ∧ zvn σ (β 51 k) := fun k k0 => by
            refine ⟨?_, by rw [bsm 51 (by decide), ws 51 (by decide)]; exact (tz k k0).2⟩
            rw [bat]
            split
            · rename_i hh
              have := pl2 _ (pmem (k - 4 * v) (by omega) (by omega))
              exact Or.inr ⟨this.2.1, by omega⟩
            · rw [ws 50 (by decide)]
              exact (tz k k0).1
          -- the pins
          refine lp_for (lp := fun m k a => lp_CX_connect_168 Q (lp_CX_connect_65 Q n) m v v k a) (fun k υ => 4 * v ≤ k ∧ zsm [11, 51, 52, 53] β υ ∧ (∀ i : Int, 0 ≤ i → i < L.length → υ 11 i = ind (gtA σ L pt C cl v i ∨ i = v ∨ ((2 ≤ σ 1 i ∧ ro σ L i = 0) ∧ ∃ p : Int, 0 ≤ p ∧ 4 * v + p < k ∧ (plS σ L pt C cl v).getD p.toNat 0 = i))) ∧ (∀ j : Int, (4 * v ≤ j ∧ j < k → lkV σ υ ((plS σ L pt C cl v).getD (j - 4 * v).toNat 0) j) ∧ (¬ (4 * v ≤ j ∧ j < k) → υ 51 j = τ 51 j ∧ υ 52 j = τ 52 j ∧ υ 53 j = τ 53 j)) ∧ ∀ k : Int, 0 ≤ k → zvn σ (υ 51 k)) (4 * v + σ 24 (cl v)) (fun m k υ hk hJ nx2 => ?_) (4 * v) β (by omega) ⟨by omega, zsm.rf, fun i i0 i1 => ?_, fun j => ⟨fun q2 => absurd q2 (by omega), fun _ => ?_⟩, fun k k0 => (bz k k0).2⟩
          · obtain ⟨k4, us, u11, ul, uz⟩ := hJ
            have us' : zsm [11, 50, 51, 52, 53, 57, 58] τ0 υ := (ws'.trans (bsm.mono (by decide))).trans (us.mono (by decide))
            have U : ∀ f, f ∉ [9, 10, 11, 12, 13, 14, 16, 50, 51, 52, 53, 57, 58] → υ f = σ f := fun f hf => (us' f (fun q => hf (by revert q; simp; omega))).trans (xs0 f (fun q => hf (by revert q; simp; omega)))
            have u14 : υ 14 v = cl v := by rw [us' 14 (by decide), hcl]
            unfold lp_CX_connect_168
            rw [U 70 (by decide), u14, U 71 (by decide), U 24 (by decide)]
            refine ⟨v0, by omega, d1, by omega, by omega, by omega, fun q2 => ?_, fun q2 => ⟨by omega, by omega, ?_⟩⟩
            · -- on to the next node
              have hke : k = 4 * v + σ 24 (cl v) := by omega
              refine nx v0 υ ⟨by omega, us', fun i i0 i1 => ?_, ?_, ?_, fun j j0 j1 => ?_, fun j j0 => ⟨by rw [us 50 (by decide)]; exact (bz j j0).1, uz j j0⟩⟩
              · rw [u11 i i0 i1]
                apply ind_iff
                constructor
                · rintro (q3 | rfl | ⟨q3, p, q4, q5, q6⟩)
                  · rcases q3 with ⟨a1, a2⟩ | ⟨a1, a2, k', a3, a4, a5⟩
                    · exact Or.inl ⟨by omega, a2⟩
                    · by_cases e : i = v
                      · rw [e]; exact Or.inl ⟨by omega, hg⟩
                      · exact Or.inr ⟨by omega, a2, k', by omega, a4, a5⟩
                  · exact Or.inl ⟨by omega, hg⟩
                  · have hm := pmem p q4 (by omega)
                    rw [q6] at hm
                    exact Or.inr ⟨by have := (pl2 i hm).2.2; omega, q3, v, by omega, hg, hm⟩
                · rintro (⟨a1, a2⟩ | ⟨a1, a2, k', a3, a4, a5⟩)
                  · by_cases e : i = v
                    · exact Or.inr (Or.inl e)
                    · exact Or.inl (Or.inl ⟨by omega, a2⟩)
                  · by_cases e : k' = v
                    · rw [e] at a5
                      obtain ⟨p, hp, hpe⟩ := List.getElem_of_mem a5
                      refine Or.inr (Or.inr ⟨a2, (p : Int), by omega, by omega, ?_⟩)
                      rw [Int.toNat_natCast, List.getD_eq_getElem?_getD, List.getElem?_eq_getElem hp]
                      exact hpe
                    · exact Or.inl (Or.inr ⟨by omega, a2, k', by omega, a4, a5⟩)
              · rw [us 57 (by decide), bsm 57 (by decide), w57, t57]
                have := cnt_pt (p := fun i => v < i ∧ GT σ L pt C cl i) (q := fun i => v - 1 < i ∧ GT σ L pt C cl i) (v := v) L.length (fun i hi => ⟨fun q => ⟨by omega, q.2⟩, fun q => ⟨by omega, q.2⟩⟩) (fun q => by omega) v0 v1
                rw [this, ind_t ⟨by omega, hg⟩]
              · rw [us 58 (by decide), bsm 58 (by decide), w58, t58]
                have := zsum_pt (f := fun i => ind (v < i ∧ GT σ L pt C cl i) * σ 22 (cl i)) (g := fun i => ind (v - 1 < i ∧ GT σ L pt C cl i) * σ 22 (cl i)) (v := v) L.length (fun i hi => by
                  rw [ind_iff (show (v < i ∧ GT σ L pt C cl i) ↔ (v - 1 < i ∧ GT σ L pt C cl i) from ⟨fun q => ⟨by omega, q.2⟩, fun q => ⟨by omega, q.2⟩⟩)]) v0 v1
                rw [this, ind_t ⟨by omega, hg⟩, ind_f (fun q : v < v ∧ GT σ L pt C cl v => by omega)]
                omega
              · obtain ⟨u1, u2⟩ := ul j
                obtain ⟨t1, t2⟩ := tl j j0 j1
                by_cases hj : 4 * v ≤ j ∧ j < k
                · have hlk : lkS σ L pt C cl j := Or.inl ⟨j0, by omega, by omega, by rw [show j / 4 = v by omega]; exact hg, by rw [show j / 4 = v by omega]; omega⟩
                  have := u1 hj
                  refine ⟨fun _ => ?_, fun q3 => absurd ⟨by omega, by omega, hlk⟩ q3⟩
                  unfold enS
                  rw [if_pos (by omega), show j / 4 = v by omega, show (j % 4).toNat = (j - 4 * v).toNat by omega]
                  exact this
                · obtain ⟨b1, b2, b3⟩ := u2 hj
                  unfold lkV lkN
                  rw [b1, b2, b3]
                  refine ⟨fun q3 => t1 ⟨q3.1, ?_, q3.2.2⟩, fun q3 => t2 (fun q4 => q3 ⟨q4.1, by omega, q4.2.2⟩)⟩
                  by_cases e : j / 4 = v
                  · exfalso
                    rcases q3.2.2 with q4 | q4
                    · have := q4.2.2.2.2
                      rw [e] at this
                      omega
                    · omega
                  · omega
            · have u50 : υ 50 k = (plS σ L pt C cl v).getD (k - 4 * v).toNat 0 := by
                rw [us 50 (by decide)]
                have := b50 (k - 4 * v) (by omega) (by omega)
                rw [show 4 * v + (k - 4 * v) = k by omega] at this
                exact this
              have em := pmem (k - 4 * v) (by omega) (by omega)
              rw [← u50] at em
              have eb := pl2 _ em
              -- a trace
              have tc : ∀ υ', zsm [11] υ υ' → (∀ i : Int, 0 ≤ i → i < L.length → υ' 11 i = ind (gtA σ L pt C cl v i ∨ i = v ∨ ((2 ≤ σ 1 i ∧ ro σ L i = 0) ∧ ∃ p : Int, 0 ≤ p ∧ 4 * v + p < k + 1 ∧ (plS σ L pt C cl v).getD p.toNat 0 = i))) → bk_CX_connect_214 Q (lp_CX_connect_65 Q n) (lp_CX_connect_168 Q (lp_CX_connect_65 Q n) m) v v k υ' := fun υ' us2 h11 => by
                have n3 := (ul k).2 (by omega)
                have n4 := (tl k (by omega) (by omega)).2 (fun q3 => by omega)
                refine sx_trace h hu (e := υ 50 k) ((xs0.mono (by decide)).trans ((us'.mono (by decide)).trans (us2.mono (by decide)))) (by omega) (by omega) (by rw [us2 50 (by decide)]) eb.2.1 (by omega) (by rw [us2 52 (by decide), n3.2.1]; exact n4.2.1) (by rw [us2 53 (by decide), n3.2.2]; exact n4.2.2) (fun ξ xs2 xi x1 x2 x3 => ?_)
                refine nx2 (by omega) ξ ⟨by omega, (us.trans (us2.mono (by decide))).trans (xs2.mono (by decide)), fun i i0 i1 => by rw [xs2 11 (by decide)]; exact h11 i i0 i1, fun j => ⟨fun hj => ?_, fun hj => ?_⟩, fun j j0 => ?_⟩
                · by_cases e : j = k
                  · rw [e, ← u50]
                    exact ⟨x1, x2, x3⟩
                  · obtain ⟨b1, b2, b3⟩ := xi j e
                    unfold lkV
                    rw [b1, b2, b3, us2 51 (by decide), us2 52 (by decide), us2 53 (by decide)]
                    exact (ul j).1 (by omega)
                · obtain ⟨b1, b2, b3⟩ := xi j (by omega)
                  rw [b1, b2, b3, us2 51 (by decide), us2 52 (by decide), us2 53 (by decide)]
                  exact (ul j).2 (by omega)
                · by_cases e : j = k
                  · rw [e, x1]
                    have := tno_b h hu 7 (υ 50 k) eb.2.1 (by omega)
                    exact Or.inr ⟨this.1, by omega⟩
                  · rw [(xi j e).1, us2 51 (by decide)]
                    exact uz j j0
              have same : ¬ (2 ≤ σ 1 (υ 50 k) ∧ ro σ L (υ 50 k) = 0) → ∀ i : Int, 0 ≤ i → i < L.length → υ 11 i = ind (gtA σ L pt C cl v i ∨ i = v ∨ ((2 ≤ σ 1 i ∧ ro σ L i = 0) ∧ ∃ p : Int, 0 ≤ p ∧ 4 * v + p < k + 1 ∧ (plS σ L pt C cl v).getD p.toNat 0 = i)) := fun hni i i0 i1 => by
                rw [u11 i i0 i1]
                apply ind_iff
                constructor
                · rintro (q3 | q3 | ⟨q3, p, q4, q5, q6⟩)
                  · exact Or.inl q3
                  · exact Or.inr (Or.inl q3)
                  · exact Or.inr (Or.inr ⟨q3, p, q4, by omega, q6⟩)
                · rintro (q3 | q3 | ⟨q3, p, q4, q5, q6⟩)
                  · exact Or.inl q3
                  · exact Or.inr (Or.inl q3)
                  · refine Or.inr (Or.inr ⟨q3, p, q4, ?_, q6⟩)
                    by_cases e : 4 * v + p = k
                    · rw [show p.toNat = (k - 4 * v).toNat by omega, ← u50] at q6
                      rw [← q6] at q3
                      exact absurd q3 hni
                    · omega
              refine ⟨fun q3 => absurd q3 (by omega), fun _ => ⟨eb.2.1, by omega, sx_inner h (tr υ us') eb.2.1 (by omega) (fun i1 i2 => ⟨by decide, fun q3 => absurd q3 (by decide), fun _ => ⟨eb.2.1, by rw [U 70 (by decide)]; omega, ?_⟩⟩) (fun hni => ⟨by decide, fun _ => tc υ zsm.rf (same hni), fun q3 => absurd rfl q3⟩)⟩⟩
              rintro _ rfl
              refine tc _ (zsm_up (by decide)) (fun i i0 i1' => ?_)
              rw [zup_or]
              by_cases e : i = υ 50 k
              · rw [if_pos e]
                refine (ind_t (Or.inr (Or.inr ⟨?_, k - 4 * v, by omega, by omega, ?_⟩))).symm
                · rw [e]; exact ⟨i1, i2⟩
                · rw [← u50, e]
              · rw [if_neg e, u11 i i0 i1']
                apply ind_iff
                constructor
                · rintro (q3 | q3 | ⟨q3, p, q4, q5, q6⟩)
                  · exact Or.inl q3
                  · exact Or.inr (Or.inl q3)
                  · exact Or.inr (Or.inr ⟨q3, p, q4, by omega, q6⟩)
                · rintro (q3 | q3 | ⟨q3, p, q4, q5, q6⟩)
                  · exact Or.inl q3
                  · exact Or.inr (Or.inl q3)
                  · refine Or.inr (Or.inr ⟨q3, p, q4, ?_, q6⟩)
                    by_cases e2 : 4 * v + p = k
                    · rw [show p.toNat = (k - 4 * v).toNat by omega, ← u50] at q6
                      exact absurd q6.symm e
                    · omega
          · rw [bsm 11 (by decide), w11]
            by_cases e : i = v
            · rw [if_pos e, ind_t (Or.inr (Or.inl e))]
            · rw [if_neg e, t11 i i0 i1]
              apply ind_iff
              constructor
              · exact fun q3 => Or.inl q3
              · rintro (q3 | q3 | ⟨q3, p, q4, q5, q6⟩)
                · exact q3
                · exact absurd q3 e
                · omega
          · rw [bsm 51 (by decide), bsm 52 (by decide), bsm 53 (by decide), ws 51 (by decide), ws 52 (by decide), ws 53 (by decide)]
            exact ⟨rfl, rfl, rfl⟩
        refine ⟨by omega, fun q2 => sx_root h (tr τ ts) v0 v1 ?_, fun q2 => yesG (gv.mpr (Or.inr (ind_eq1.mp (by omega))))⟩
        have r01 := ro_01 σ L v
        refine ⟨by omega, fun q3 => noG (fun q4 => ?_), fun q3 => yesG (gv.mpr (Or.inl (ind_eq1.mp (by unfold ro at r01 q3; omega))))⟩
        rcases gv.mp q4 with q5 | q5
        · unfold ro at q3
          rw [ind_t q5] at q3
          omega
        · rw [tv, ind_t q5] at q2
          omega
    · rw [ts 11 (by decide), (x11 i i0 i1).1]
      refine (ind_f ?_).symm
      rintro (⟨a1, a2⟩ | ⟨a1, a2, k, a3, a4, a5⟩)
      · omega
      · have := LV_b h hu (a4.lv h hu hchA).1
        omega
    · rw [h57]
      exact (cnt_none _ (fun i i0 i1 q => by omega)).symm
    · rw [h58]
      have := zsum_congr (f := fun i => ind ((L.length : Int) - 1 < i ∧ GT σ L pt C cl i) * σ 22 (cl i)) (g := fun _ => 0) L.length (fun i i0 i1 => by rw [ind_f (fun q => by omega), Int.zero_mul])
      rw [this, zsum_const]
      simp
    · rcases q2.2.2 with q3 | q3 <;> omega
  · rintro _ rfl _ rfl _ rfl _ rfl
    refine nx (by omega) _ ⟨by omega, (((ts.up (by decide)).up (by decide)).up (by decide)).up (by decide), ?_, ?_, fun k k0 k1 => ?_, fun k k0 => ?_⟩
    · rw [zup_ne _ _ _ _ (by decide), zup_ne _ _ _ _ (by decide), zup_ne _ _ _ _ (by decide), zup_ne _ _ _ _ (by decide)]
      exact h57
    · rw [zup_ne _ _ _ _ (by decide), zup_ne _ _ _ _ (by decide), zup_ne _ _ _ _ (by decide), zup_ne _ _ _ _ (by decide)]
      exact h58
    · by_cases e : k = v
      · subst e
        simp [lkN, zup]
      · have := hN k k0 (by omega)
        unfold lkN at this ⊢
        simp only [zup, if_neg e]
        simpa using this
    · have := hZ k k0
      by_cases e : k = v
      · subst e
        simp [zup, zvn]
      · simp only [zup, if_neg e]
        simpa using this
