/-! the model's cover -/
def mck : List Nat := [125, 126, 127, 128, 129, 130, 131, 132, 133, 134, 135, 136, 137]
def lkM (σ τ : zS) (e k : Int) : Prop := τ 135 k = tno σ 7 e ∧ τ 136 k = twe σ 7 e ∧ τ 137 k = tbi σ 7 0 e
def mcvr (σ υ : zS) (L : Gr) (pt : Int → Pat) (C cl : Int → Int) : Prop := (∀ i : Int, 0 ≤ i → i < L.length → υ 131 i = ind (GT σ L pt C cl i)) ∧ (∀ i : Int, GT σ L pt C cl i → υ 129 i = cl i) ∧ ∀ k : Int, 0 ≤ k → k < 196 → (lkS σ L pt C cl k → lkM σ υ (enS σ L pt C cl k) k) ∧ (¬ lkS σ L pt C cl k → υ 135 k = -1)
def gtM (σ : zS) (L : Gr) (pt : Int → Pat) (C cl : Int → Int) (v i : Int) : Prop := (v < i ∧ GT σ L pt C cl i) ∨ (i ≤ v ∧ 2 ≤ σ 1 i ∧ ∃ k : Int, v < k ∧ GT σ L pt C cl k ∧ i ∈ plS σ L pt C cl k)
theorem sm_cover {σ τ : zS} {L : Gr} {pt : Int → Pat} {C cl : Int → Int} {Q : zS → Prop} (h : BW σ L pt) (hu : ¬ und σ L) (T : ∀ f, 100 ≤ f → τ f = σ f) (hch : chA σ L pt C cl) (hQ : ∀ υ, zsm mck τ υ → mcvr σ υ L pt C cl → Q υ) : wp_MM_cover Q τ := by
  have hl := h.len
  have e113 := h.e113
  have o0 := h.o0
  have o1 := h.o1
  have o2 := h.o2
  refine sm_findRoots h hu T (fun τ1 hm => ?_)
  obtain ⟨ms, hm⟩ := hm
  have r1 : mr σ τ1 L := ⟨fun f h1 h2 => (ms f (by simp; omega)).trans (T f h1), fun i i0 i1 => ⟨(hm i i0 i1).1, (hm i i0 i1).2.1⟩⟩
  -- the choices
  refine lp_for (lp := fun n v a => lp_MM_cover_6 Q n v a) (fun v υ => 0 ≤ v ∧ zsm [128, 129, 130, 132, 133, 134] τ1 υ ∧ ∀ i : Int, LV σ L i → 0 ≤ i → i < v → 2 ≤ σ 1 i → υ 128 i = C i ∧ υ 129 i = cl i ∧ υ 130 i = xsS σ L C (pt (cl i)) i) (L.length : Int) (fun n v υ hv hI nx => ?_) 0 τ1 (by omega) ⟨by omega, zsm.rf, fun i _ i0 i1 => absurd i1 (by omega)⟩
  obtain ⟨v0, us, hI⟩ := hI
  have ur : mr σ υ L := r1.sm (fun f h1 h2 => us f (by simp; omega))
  unfold lp_MM_cover_6
  rw [ur.1 113 (by decide) (by decide)]
  refine ⟨by omega, by omega, fun q => ?_, fun q => ?_⟩
  · clear nx
    have hI : ∀ i : Int, LV σ L i → 2 ≤ σ 1 i → υ 128 i = C i ∧ υ 129 i = cl i ∧ υ 130 i = xsS σ L C (pt (cl i)) i := fun i li ki => by
      have := LV_b h hu li
      exact hI i li this.1 (by omega) ki
    -- the places are cleared
    refine lp_for (lp := fun n v a => lp_MM_cover_44 Q n v a) (fun v ω => 0 ≤ v ∧ zsm [135] υ ω ∧ ∀ k : Int, 0 ≤ k → k < v → ω 135 k = -1) 196 (fun n v ω hv hJ nx => ?_) 0 υ (by omega) ⟨by omega, zsm.rf, fun k k0 k1 => absurd k1 (by omega)⟩
    obtain ⟨v0, ws, hJ⟩ := hJ
    have wr : mr σ ω L := ur.sm (fun f h1 h2 => ws f (by simp; omega))
    unfold lp_MM_cover_44
    refine ⟨by omega, fun q => ?_, fun q => ⟨v0, by omega, ?_⟩⟩
    · clear nx
      rintro _ rfl
      rw [wr.1 113 (by decide) (by decide), e113]
      -- the gates
      refine lp_dn (lp := fun n v a => lp_MM_cover_71 Q n v a) (fun v ξ => v < L.length ∧ zsm [128, 131, 132, 133, 134, 135, 136, 137] ω ξ ∧ (∀ i : Int, LV σ L i → 2 ≤ σ 1 i → ξ 128 i = C i) ∧ (∀ i : Int, 0 ≤ i → i < L.length → ξ 131 i = ind (gtM σ L pt C cl v i)) ∧ (∀ k : Int, 0 ≤ k → k < 196 → ((k < 192 ∧ v < k / 4 ∧ lkS σ L pt C cl k) → lkM σ ξ (enS σ L pt C cl k) k) ∧ (¬ (k < 192 ∧ v < k / 4 ∧ lkS σ L pt C cl k) → ξ 135 k = -1))) (fun n v ξ hv hK nx => ?_) _ ω (by omega) ⟨by omega, zsm.rf, fun i li ki => by rw [ws 128 (by decide)]; exact (hI i li ki).1, fun i i0 i1 => ?_, fun k k0 k1 => ⟨fun q2 => ?_, fun _ => hJ k k0 (by omega)⟩⟩
      · obtain ⟨v1, xs', x128, x131, xl'⟩ := hK
        have xr' : mr σ ξ L := wr.sm (fun f h1 h2 => xs' f (by simp; omega))
        have x129 : ∀ i : Int, LV σ L i → 2 ≤ σ 1 i → ξ 129 i = cl i := fun i li ki => by rw [xs' 129 (by decide), ws 129 (by decide)]; exact (hI i li ki).2.1
        have x130 : ∀ i : Int, LV σ L i → 2 ≤ σ 1 i → ξ 130 i = xsS σ L C (pt (cl i)) i := fun i li ki => by rw [xs' 130 (by decide), ws 130 (by decide)]; exact (hI i li ki).2.2
        unfold lp_MM_cover_71
        refine ⟨by omega, fun q => ?_, fun q => ?_⟩
        · -- the outputs
          have hv1 : v = -1 := by omega
          subst hv1
          clear nx
          refine lp_for (lp := fun n v a => lp_MM_cover_218 Q n v a) (fun v ζ => 0 ≤ v ∧ zsm [135, 136, 137] ξ ζ ∧ (∀ k : Int, 0 ≤ k → k < 192 → ζ 135 k = ξ 135 k ∧ ζ 136 k = ξ 136 k ∧ ζ 137 k = ξ 137 k) ∧ (∀ k : Int, 0 ≤ k → k < v → lkM σ ζ (σ 45 k) (192 + k)) ∧ (∀ k : Int, v ≤ k → k < 4 → ζ 135 (192 + k) = -1)) (σ 40 4) (fun n v ζ hv hM nx => ?_) 0 ξ o0 ⟨by omega, zsm.rf, fun k _ _ => ⟨rfl, rfl, rfl⟩, fun k k0 k1 => absurd k1 (by omega), fun k k0 k1 => (xl' (192 + k) (by omega) (by omega)).2 (fun q => by omega)⟩
          obtain ⟨v0, zs, z1, z2, z3⟩ := hM
          have zr : mr σ ζ L := xr'.sm (fun f h1 h2 => zs f (by simp; omega))
          unfold lp_MM_cover_218
          rw [zr.1 118 (by decide) (by decide), zr.1 119 (by decide) (by decide), zr.1 102 (by decide) (by decide)]
          refine ⟨by omega, by omega, fun q => ?_, fun q => ?_⟩
          · have hv4 : v = σ 40 4 := by omega
            subst hv4
            refine hQ ζ (((((ms.mono (by decide)).trans (us.mono (by decide))).trans (ws.mono (by decide))).trans (xs'.mono (by decide))).trans (zs.mono (by decide))) ⟨fun i i0 i1 => ?_, fun i hi => ?_, fun k k0 k1 => ?_⟩
            · rw [zs 131 (by decide), x131 i i0 i1]
              exact ind_iff ⟨fun q => q.elim (fun q => q.2) (fun q => by omega), fun q => Or.inl ⟨by omega, q⟩⟩
            · rw [zs 129 (by decide)]
              have := hi.lv h hu hch
              exact x129 i this.1 this.2
            · by_cases hk : k < 192
              · obtain ⟨b1, b2, b3⟩ := z1 k k0 hk
                obtain ⟨t1, t2⟩ := xl' k k0 k1
                refine ⟨fun q2 => ?_, fun q2 => ?_⟩
                · unfold lkM
                  rw [b1, b2, b3]
                  exact t1 ⟨hk, by omega, q2⟩
                · rw [b1]
                  exact t2 (fun q3 => q2 q3.2.2)
              · refine ⟨fun q2 => ?_, fun q2 => ?_⟩
                · have hk2 : k < 192 + σ 40 4 := by
                    rcases q2 with q2 | q2
                    · omega
                    · exact q2.2
                  have := z2 (k - 192) (by omega) (by omega)
                  rw [show 192 + (k - 192) = k by omega] at this
                  unfold enS
                  rw [if_neg hk]
                  exact this
                · have := z3 (k - 192) (Classical.byContradiction fun q3 => q2 (Or.inr ⟨by omega, by omega⟩)) (by omega)
                  rw [show 192 + (k - 192) = k by omega] at this
                  exact this
          · have ho := h.out v v0 (by omega)
            have hno := h.net _ ho.1 ho.2.1
            have hn1 := h.n1
            rw [hno.2.2.1, ← ho.2.2]
            refine ⟨v0, by omega, ho.1, by omega, sm_connect h hu zr.1 (by omega) (by omega) (by omega) (by omega) (fun θ ths ti t1 t2 t3 => ?_)⟩
            refine nx (by omega) θ ⟨by omega, zs.trans ths, fun k k0 k1 => ?_, fun k k0 k1 => ?_, fun k k0 k1 => ?_⟩
            · obtain ⟨b1, b2, b3⟩ := ti k (by omega)
              rw [b1, b2, b3]
              exact z1 k k0 k1
            · by_cases e : k = v
              · rw [e]
                exact ⟨t1, t2, t3⟩
              · obtain ⟨b1, b2, b3⟩ := ti (192 + k) (by omega)
                unfold lkM
                rw [b1, b2, b3]
                exact z2 k k0 (by omega)
            · rw [(ti (192 + k) (by omega)).1]
              exact z3 k (by omega) k1
        · have v0 : 0 ≤ v := by omega
          have xv := x131 v v0 v1
          have xv01 := ind_01 (gtM σ L pt C cl v v)
          have r126 := (xr'.2 v v0 v1).2
          have r01 := ro_01 σ L v
          have gv : GT σ L pt C cl v ↔ (RT σ L v ∨ gtM σ L pt C cl v v) := by
            constructor
            · intro hg
              rcases hg.inv with q2 | ⟨k, k1, k2, k3⟩
              · exact Or.inl q2
              · have kl := k1.lv h hu hch
                exact Or.inr (Or.inr ⟨Int.le_refl _, k2, k, ((pl_b h hu hch kl.1 kl.2).2 v k3).2.2, k1, k3⟩)
            · rintro (q2 | (q2 | ⟨-, q2, k, -, k1, k3⟩))
              · exact GT.rt q2
              · omega
              · exact GT.dn k1 q2 k3
          have noG : ¬ GT σ L pt C cl v → bk_MM_cover_103 Q (lp_MM_cover_71 Q n) v 0 v ξ := fun hng => by
            refine ⟨v0, by omega, Or.inl rfl, ?_⟩
            rintro _ rfl
            refine ⟨v0, by omega, by rw [zup_at]; decide, fun _ => ?_, fun q2 => absurd (zup_at _ _ _ _) q2⟩
            refine nx v0 _ ⟨by omega, xs'.up (by decide), fun i li ki => by rw [zup_ne _ _ _ _ (by decide)]; exact x128 i li ki, fun i i0 i1 => ?_, fun k k0 k1 => ?_⟩
            · have gA : gtM σ L pt C cl (v - 1) i ↔ (i ≠ v ∧ gtM σ L pt C cl v i) := by
                constructor
                · rintro (⟨a1, a2⟩ | ⟨a1, a2, k, a3, a4, a5⟩)
                  · by_cases e : i = v
                    · rw [e] at a2; exact absurd a2 hng
                    · exact ⟨e, Or.inl ⟨by omega, a2⟩⟩
                  · by_cases e : k = v
                    · rw [e] at a4; exact absurd a4 hng
                    · exact ⟨by omega, Or.inr ⟨by omega, a2, k, by omega, a4, a5⟩⟩
                · rintro ⟨e, ⟨a1, a2⟩ | ⟨a1, a2, k, a3, a4, a5⟩⟩
                  · exact Or.inl ⟨by omega, a2⟩
                  · exact Or.inr ⟨by omega, a2, k, by omega, a4, a5⟩
              rw [zup_or, ind_iff gA]
              by_cases e : i = v
              · rw [if_pos e, ind_f (fun q => q.1 e)]
              · rw [if_neg e, x131 i i0 i1]
                exact ind_iff ⟨fun q => ⟨e, q⟩, fun q => q.2⟩
            · obtain ⟨t1, t2⟩ := xl' k k0 k1
              have nk : k < 192 → k / 4 = v → ¬ lkS σ L pt C cl k := fun q1 q2 q3 => by
                rcases q3 with q3 | q3
                · have := q3.2.2.2.1
                  rw [q2] at this
                  exact hng this
                · omega
              unfold lkM
              rw [zup_ne _ _ _ _ (by decide), zup_ne _ _ _ _ (by decide), zup_ne _ _ _ _ (by decide)]
              refine ⟨fun q2 => t1 ⟨q2.1, ?_, q2.2.2⟩, fun q2 => t2 (fun q3 => q2 ⟨q3.1, by omega, q3.2.2⟩)⟩
              by_cases e : k / 4 = v
              · exact absurd q2.2.2 (nk q2.1 e)
              · omega
          have yesG : GT σ L pt C cl v → bk_MM_cover_98 Q (lp_MM_cover_71 Q n) v v ξ := fun hg => by
            have gl := hg.lv h hu hch
            obtain ⟨d1, d2, hxl⟩ := ch_xl h hu hch gl.1 gl.2
            obtain ⟨p1, p2, p3, p4, p5, p6⟩ := h.cpt _ d1 d2
            have pn := h.pins d1 d2
            obtain ⟨pl1, pl2⟩ := pl_b h hu hch gl.1 gl.2
            have chv := hch v gl.1 gl.2
            have LD := lvD h hu v
            have LC := lvC h hu hch v
            have dn := lv_dpt h v0 v1 gl.1 (Int.le_refl v)
            have sb := xs_b (K := σ 1) (X := σ 2) (Y := σ 3) (ro := ro σ L) (C := C) (pt (cl v)) v
            have np := nn_pins _ p1
            have pow8 : (2 : Int) ^ nn (pt (cl v)) ≤ 8 := by
              have := Nat.pow_le_pow_right (n := 2) (by decide) (show nn (pt (cl v)) ≤ 3 by omega)
              exact_mod_cast this
            refine ⟨v0, by omega, Or.inr rfl, ?_⟩
            rintro _ rfl
            refine ⟨v0, by omega, by rw [zup_at]; decide, fun q2 => absurd q2 (by rw [zup_at]; decide), fun _ => ?_⟩
            rw [zup_ne _ _ _ v (by decide), zup_ne _ _ _ v (by decide), x129 v gl.1 gl.2, x130 v gl.1 gl.2]
            have z131 : ∀ i : Int, zup ξ 131 v 1 131 i = if i = v then 1 else ξ 131 i := fun i => zup_or _ _ _ _ _
            have zs0 : zsm [131] ξ (zup ξ 131 v 1) := zsm_up (by decide)
            generalize zup ξ 131 v 1 = ζ at z131 zs0
            have zr : mr σ ζ L := xr'.sm (fun f h1 h2 => zs0 f (by simp; omega))
            have cg : lyo (σ 1) (σ 2) (σ 3) (ro σ L) (ζ 128) (pt (cl v)) v 1 (xsS σ L C (pt (cl v)) v) = lyo (σ 1) (σ 2) (σ 3) (ro σ L) C (pt (cl v)) v 1 (xsS σ L C (pt (cl v)) v) := lyo_congr LD.2 (fun i hi k _ => by rw [zs0 128 (by decide)]; exact x128 i hi.1 k) (pt (cl v)) v 1 _ (Or.inr ⟨isv_of p1 p2, dn⟩)
            have F4 : lyo (σ 1) (σ 2) (σ 3) (ro σ L) C (pt (cl v)) v 1 (xsS σ L C (pt (cl v)) v) = some (xlS σ L C (pt (cl v)) v 1) := lyo_xs LD.2 LC (pt (cl v)) v 1 (Or.inr ⟨isv_of p1 p2, dn⟩) hxl
            refine sm_lay (D := fun i => LV σ L i ∧ 0 ≤ i ∧ i < v) h zr LD.1 LD.2 d1 d2 sb.1 (by show xs (σ 1) (σ 2) (σ 3) (ro σ L) C (pt (cl v)) v < 2147483648; omega) v0 v1 dn (fun a θ ha ths th1 th2 => ?_) (fun ha => ?_)
            rotate_left
            · rw [cg, F4] at ha
              cases ha
            rw [cg, F4] at ha
            simp only [Option.some.injEq] at ha
            rintro _ rfl
            -- the pins
            have pe : ∀ p : Int, 0 ≤ p → p < σ 24 (cl v) → θ 133 p = (plS σ L pt C cl v).getD p.toNat 0 := fun p q0 q1 => by
              have := th2 p.toNat (by omega)
              rw [show ((p.toNat : Nat) : Int) = p by omega, lyp_xs] at this
              exact this
            have pmem : ∀ p : Int, 0 ≤ p → p < σ 24 (cl v) → (plS σ L pt C cl v).getD p.toNat 0 ∈ plS σ L pt C cl v := fun p q0 q1 => by
              have hp : p.toNat < (plS σ L pt C cl v).length := by omega
              rw [List.getD_eq_getElem?_getD, List.getElem?_eq_getElem hp]
              exact List.getElem_mem hp
            have ths' : zsm [128, 131, 132, 133, 134] ξ (zup θ 128 v (σ 22 (cl v) + a)) := ((zs0.mono (by decide)).trans (ths.mono (by decide))).up (by decide)
            have t128 : ∀ i : Int, LV σ L i → 2 ≤ σ 1 i → zup θ 128 v (σ 22 (cl v) + a) 128 i = C i := fun i li ki => by
              rw [zup_or]
              by_cases e : i = v
              · rw [if_pos e, e, ← ha]
                exact chv.2.2.2.2.1.symm
              · rw [if_neg e, ths 128 (by decide), zs0 128 (by decide)]
                exact x128 i li ki
            have t131 : ∀ i : Int, zup θ 128 v (σ 22 (cl v) + a) 131 i = if i = v then 1 else ξ 131 i := fun i => by rw [zup_ne _ _ _ _ (by decide), ths 131 (by decide), z131]
            have t133 : ∀ p : Int, 0 ≤ p → p < σ 24 (cl v) → zup θ 128 v (σ 22 (cl v) + a) 133 p = (plS σ L pt C cl v).getD p.toNat 0 := fun p q0 q1 => by rw [zup_ne _ _ _ _ (by decide)]; exact pe p q0 q1
            have t134 : zup θ 128 v (σ 22 (cl v) + a) 134 0 = σ 24 (cl v) := by rw [zup_ne _ _ _ _ (by decide), th1, p5]
            generalize zup θ 128 v (σ 22 (cl v) + a) = β at ths' t128 t131 t133 t134
            refine lp_for (lp := fun m p a => lp_MM_cover_138 Q (lp_MM_cover_71 Q n) m v p a) (fun p φ => 0 ≤ p ∧ zsm [131, 135, 136, 137] β φ ∧ (∀ i : Int, 0 ≤ i → i < L.length → φ 131 i = ind (gtM σ L pt C cl v i ∨ i = v ∨ (2 ≤ σ 1 i ∧ ∃ p' : Int, 0 ≤ p' ∧ p' < p ∧ (plS σ L pt C cl v).getD p'.toNat 0 = i))) ∧ (∀ j : Int, (4 * v ≤ j ∧ j < 4 * v + p → lkM σ φ ((plS σ L pt C cl v).getD (j - 4 * v).toNat 0) j) ∧ (¬ (4 * v ≤ j ∧ j < 4 * v + p) → φ 135 j = ξ 135 j ∧ φ 136 j = ξ 136 j ∧ φ 137 j = ξ 137 j))) (σ 24 (cl v)) (fun m p φ hp hM nx2 => ?_) 0 β (by omega) ⟨by omega, zsm.rf, fun i i0 i1 => ?_, fun j => ⟨fun q2 => absurd q2 (by omega), fun _ => ?_⟩⟩
            · obtain ⟨q0, fs, f131, fl⟩ := hM
              have fs' : zsm [128, 131, 132, 133, 134, 135, 136, 137] ω φ := (xs'.trans (ths'.mono (by decide))).trans (fs.mono (by decide))
              have fr : mr σ φ L := wr.sm (fun f h1 h2 => fs' f (by simp; omega))
              have f134 : φ 134 0 = σ 24 (cl v) := by rw [fs 134 (by decide)]; exact t134
              unfold lp_MM_cover_138
              rw [f134]
              refine ⟨by omega, by omega, fun q2 => ?_, fun q2 => ?_⟩
              · have hpe : p = σ 24 (cl v) := by omega
                refine nx v0 φ ⟨by omega, fs', fun i li ki => by rw [fs 128 (by decide)]; exact t128 i li ki, fun i i0 i1 => ?_, fun j j0 j1 => ?_⟩
                · rw [f131 i i0 i1]
                  apply ind_iff
                  constructor
                  · rintro (q3 | rfl | ⟨q3, p', q4, q5, q6⟩)
                    · rcases q3 with ⟨a1, a2⟩ | ⟨a1, a2, k', a3, a4, a5⟩
                      · exact Or.inl ⟨by omega, a2⟩
                      · by_cases e : i = v
                        · rw [e]; exact Or.inl ⟨by omega, hg⟩
                        · exact Or.inr ⟨by omega, a2, k', by omega, a4, a5⟩
                    · exact Or.inl ⟨by omega, hg⟩
                    · have hm := pmem p' q4 (by omega)
                      rw [q6] at hm
                      exact Or.inr ⟨by have := (pl2 i hm).2.2; omega, q3, v, by omega, hg, hm⟩
                  · rintro (⟨a1, a2⟩ | ⟨a1, a2, k', a3, a4, a5⟩)
                    · by_cases e : i = v
                      · exact Or.inr (Or.inl e)
                      · exact Or.inl (Or.inl ⟨by omega, a2⟩)
                    · by_cases e : k' = v
                      · rw [e] at a5
                        obtain ⟨p', hp', hpe'⟩ := List.getElem_of_mem a5
                        refine Or.inr (Or.inr ⟨a2, (p' : Int), by omega, by omega, ?_⟩)
                        rw [Int.toNat_natCast, List.getD_eq_getElem?_getD, List.getElem?_eq_getElem hp']
                        exact hpe'
                      · exact Or.inl (Or.inr ⟨by omega, a2, k', by omega, a4, a5⟩)
                · obtain ⟨u1, u2⟩ := fl j
                  obtain ⟨t1, t2⟩ := xl' j j0 j1
                  by_cases hj : 4 * v ≤ j ∧ j < 4 * v + p
                  · have hlk : lkS σ L pt C cl j := Or.inl ⟨j0, by omega, by omega, by rw [show j / 4 = v by omega]; exact hg, by rw [show j / 4 = v by omega]; omega⟩
                    have := u1 hj
                    refine ⟨fun _ => ?_, fun q3 => absurd ⟨by omega, by omega, hlk⟩ q3⟩
                    unfold enS
                    rw [if_pos (by omega), show j / 4 = v by omega, show (j % 4).toNat = (j - 4 * v).toNat by omega]
                    exact this
                  · obtain ⟨b1, b2, b3⟩ := u2 hj
                    unfold lkM
                    rw [b1, b2, b3]
                    refine ⟨fun q3 => t1 ⟨q3.1, ?_, q3.2.2⟩, fun q3 => t2 (fun q4 => q3 ⟨q4.1, by omega, q4.2.2⟩)⟩
                    by_cases e : j / 4 = v
                    · exfalso
                      rcases q3.2.2 with q4 | q4
                      · have := q4.2.2.2.2
                        rw [e] at this
                        omega
                      · omega
                    · omega
              · have f133 : φ 133 p = (plS σ L pt C cl v).getD p.toNat 0 := by rw [fs 133 (by decide)]; exact t133 p q0 (by omega)
                have em := pmem p q0 (by omega)
                rw [← f133] at em
                have eb := pl2 _ em
                have nde := h.nd eb.2.1 (show φ 133 p < L.length by omega)
                have fe := f131 (φ 133 p) eb.2.1 (by omega)
                have fe01 := ind_01 (gtM σ L pt C cl v (φ 133 p) ∨ φ 133 p = v ∨ (2 ≤ σ 1 (φ 133 p) ∧ ∃ p' : Int, 0 ≤ p' ∧ p' < p ∧ (plS σ L pt C cl v).getD p'.toNat 0 = φ 133 p))
                have con : ∀ z, (z = 0 ∨ z = 1) → z = ind (gtM σ L pt C cl v (φ 133 p) ∨ φ 133 p = v ∨ (2 ≤ σ 1 (φ 133 p) ∧ ∃ p' : Int, 0 ≤ p' ∧ p' < p + 1 ∧ (plS σ L pt C cl v).getD p'.toNat 0 = φ 133 p)) → bk_MM_cover_188 Q (lp_MM_cover_71 Q n) (lp_MM_cover_138 Q (lp_MM_cover_71 Q n) m) v p z (φ 133 p) φ := fun z hz hz2 => by
                  refine ⟨eb.2.1, by omega, hz, ?_⟩
                  rintro _ rfl
                  rw [zup_ne _ _ _ p (by decide)]
                  refine ⟨q0, by omega, sm_connect h hu (fun f h1 h2 => by rw [zup_f _ _ _ (by omega)]; exact fr.1 f h1 h2) (by omega) (by omega) eb.2.1 (by omega) (fun ψ ps pi g1 g2 g3 => ?_)⟩
                  refine nx2 (by omega) ψ ⟨by omega, (fs.up (by decide)).trans (ps.mono (by decide)), fun i i0 i1 => ?_, fun j => ⟨fun hj => ?_, fun hj => ?_⟩⟩
                  · rw [ps 131 (by decide), zup_or]
                    by_cases e : i = φ 133 p
                    · rw [if_pos e, hz2, e]
                    · rw [if_neg e, f131 i i0 i1]
                      apply ind_iff
                      constructor
                      · rintro (q3 | q3 | ⟨q3, p', q4, q5, q6⟩)
                        · exact Or.inl q3
                        · exact Or.inr (Or.inl q3)
                        · exact Or.inr (Or.inr ⟨q3, p', q4, by omega, q6⟩)
                      · rintro (q3 | q3 | ⟨q3, p', q4, q5, q6⟩)
                        · exact Or.inl q3
                        · exact Or.inr (Or.inl q3)
                        · refine Or.inr (Or.inr ⟨q3, p', q4, ?_, q6⟩)
                          by_cases e2 : p' = p
                          · rw [e2, ← f133] at q6
                            exact absurd q6.symm e
                          · omega
                  · by_cases e : j = 4 * v + p
                    · rw [e, show (4 * v + p - 4 * v).toNat = p.toNat by omega, ← f133]
                      exact ⟨g1, g2, g3⟩
                    · obtain ⟨b1, b2, b3⟩ := pi j e
                      unfold lkM
                      rw [b1, b2, b3, zup_ne _ _ _ _ (by decide), zup_ne _ _ _ _ (by decide), zup_ne _ _ _ _ (by decide)]
                      exact (fl j).1 (by omega)
                  · obtain ⟨b1, b2, b3⟩ := pi j (by omega)
                    rw [b1, b2, b3, zup_ne _ _ _ _ (by decide), zup_ne _ _ _ _ (by decide), zup_ne _ _ _ _ (by decide)]
                    exact (fl j).2 (by omega)
                have marked : 2 ≤ σ 1 (φ 133 p) → 1 = ind (gtM σ L pt C cl v (φ 133 p) ∨ φ 133 p = v ∨ (2 ≤ σ 1 (φ 133 p) ∧ ∃ p' : Int, 0 ≤ p' ∧ p' < p + 1 ∧ (plS σ L pt C cl v).getD p'.toNat 0 = φ 133 p)) := fun k2 => (ind_t (Or.inr (Or.inr ⟨k2, p, q0, by omega, f133.symm⟩))).symm
                refine ⟨q0, by omega, eb.2.1, by omega, by omega, fun q3 => ?_, fun q3 => ?_⟩
                · refine sm_logic eb.2.1 (by omega) (k := σ 1 (φ 133 p)) (by rw [fr.1 114 (by decide) (by decide)]; exact nde.1) (by omega) (by omega) (fun q4 => ⟨by decide, fun _ => con 0 (Or.inl rfl) (ind_f ?_).symm, fun q5 => absurd rfl q5⟩) (fun q4 => ⟨by decide, fun q5 => absurd q5 (by decide), fun _ => con 1 (Or.inr rfl) (marked q4)⟩)
                  rintro (q5 | q5 | q5)
                  · rw [fe, ind_t (Or.inl q5)] at q3
                    omega
                  · omega
                  · omega
                · have hlg : 2 ≤ σ 1 (φ 133 p) := by
                    rw [fe] at q3
                    rcases ind_eq1.mp (fe01.resolve_left q3) with q5 | q5 | q5
                    · rcases q5 with q5 | q5
                      · omega
                      · exact q5.2.1
                    · omega
                    · exact q5.1
                  exact con 1 (Or.inr rfl) (marked hlg)
            · rw [t131]
              by_cases e : i = v
              · rw [if_pos e, ind_t (Or.inr (Or.inl e))]
              · rw [if_neg e, x131 i i0 i1]
                apply ind_iff
                constructor
                · exact fun q3 => Or.inl q3
                · rintro (q3 | q3 | ⟨q3, p', q4, q5, q6⟩)
                  · exact q3
                  · exact absurd q3 e
                  · omega
            · rw [ths' 135 (by decide), ths' 136 (by decide), ths' 137 (by decide)]
              exact ⟨rfl, rfl, rfl⟩
          refine ⟨v0, by omega, by omega, fun q2 => ⟨by rw [r126]; omega, fun q3 => noG (fun q4 => ?_), fun q3 => yesG (gv.mpr (Or.inl (ind_eq1.mp (by rw [r126] at q3; unfold ro at r01 q3; omega))))⟩, fun q2 => yesG (gv.mpr (Or.inr (ind_eq1.mp (by omega))))⟩
          rcases gv.mp q4 with q5 | q5
          · rw [r126] at q3
            unfold ro at q3
            rw [ind_t q5] at q3
            omega
          · rw [xv, ind_t q5] at q2
            omega
      · rw [ws 131 (by decide), us 131 (by decide), (hm i i0 i1).2.2.2]
        refine (ind_f ?_).symm
        rintro (⟨a1, a2⟩ | ⟨a1, a2, k, a3, a4, a5⟩)
        · omega
        · have := LV_b h hu (a4.lv h hu hch).1
          omega
      · rcases q2.2.2 with q3 | q3 <;> omega
    · rintro _ rfl
      refine nx (by omega) _ ⟨by omega, ws.up (by decide), fun k k0 k1 => ?_⟩
      rw [zup_or]
      by_cases e : k = v
      · rw [if_pos e]
      · rw [if_neg e]
        exact hJ k k0 (by omega)
  · have v1 : v < L.length := by omega
    have nd := h.nd v0 v1
    have h9 := (ur.2 v v0 v1).1
    have l01 := ind_01 (LV σ L v)
    have skip : ¬ (LV σ L v ∧ 2 ≤ σ 1 v) → lp_MM_cover_6 Q n (v + 1) υ := fun hno => nx (by omega) υ ⟨by omega, us, fun i li i0 i1 ki => by
      by_cases e : i = v
      · rw [e] at li ki
        exact absurd ⟨li, ki⟩ hno
      · exact hI i li i0 (by omega) ki⟩
    refine ⟨v0, by omega, by omega, fun q2 => skip (fun q3 => by rw [h9, ind_t q3.1] at q2; omega), fun q2 => ?_⟩
    have hlv : LV σ L v := Classical.byContradiction fun q4 => q2 (by rw [h9, ind_f q4])
    refine sm_logic v0 (by omega) (k := σ 1 v) (by rw [ur.1 114 (by decide) (by decide)]; exact nd.1) (by omega) (by omega) (fun q4 => ⟨by decide, fun _ => skip (fun q5 => by omega), fun q5 => absurd rfl q5⟩) (fun q4 => ⟨by decide, fun q5 => absurd q5 (by decide), fun _ => ?_⟩)
    refine sm_choose h hu ur hch v0 v1 hlv q4 (fun i li i0 i1 ki => (hI i li i0 i1 ki).1) (fun ω ws wi w1 w2 w3 => nx (by omega) ω ⟨by omega, us.trans ws, fun i li i0 i1 ki => ?_⟩)
    by_cases e : i = v
    · rw [e]
      exact ⟨w1, w2, w3⟩
    · obtain ⟨b1, b2, b3⟩ := wi i e
      rw [b1, b2, b3]
      exact hI i li i0 (by omega) ki
