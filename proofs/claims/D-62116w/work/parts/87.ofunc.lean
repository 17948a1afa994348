/-! function: both sides -/
/-- the model's checks -/
theorem sm_func {τ : zS} {Q : Int → zS → Prop} {a b c t n : Int} (hn : τ 100 0 = n) (n0 : 0 ≤ n) (n1 : n ≤ 40) (ha : zc a) (hb : zc b) (hc : zc c) (ht : zc t) (k1 : ¬ (0 ≤ a ∧ a < n) ∨ (b ≠ -1 ∧ ¬ (0 ≤ b ∧ b < n)) ∨ (c ≠ -1 ∧ ¬ (0 ≤ c ∧ c < n)) ∨ (b = -1 ∧ c ≠ -1) → Q (-1) τ) (k2 : ∀ o, ((0 ≤ a ∧ a < n) ∧ (b = -1 ∨ (0 ≤ b ∧ b < n)) ∧ (c = -1 ∨ (0 ≤ c ∧ c < n)) ∧ (b = -1 → c = -1)) → o = (if 0 ≤ c then 255 else if 0 ≤ b then 15 else 3) → bk_MM_function_68 Q a b c t o τ) : wp_MM_function Q a b c t τ := by
  have k56 : ∀ o, (0 ≤ a ∧ a < n) → (b = -1 ∨ (0 ≤ b ∧ b < n)) → (c = -1 ∨ (0 ≤ c ∧ c < n)) → o = (if 0 ≤ c then 255 else if 0 ≤ b then 15 else 3) → bk_MM_function_56 Q a b c t o τ := fun o q1 q2 q3 q4 => ⟨hb, fun e => ⟨hc, fun e2 => k2 o ⟨q1, q2, q3, fun _ => e2⟩ q4, fun e2 => k1 (Or.inr (Or.inr (Or.inr ⟨e, e2⟩)))⟩, fun e => k2 o ⟨q1, q2, q3, fun e2 => absurd e2 e⟩ q4⟩
  have k43 : ∀ o, (0 ≤ a ∧ a < n) → (b = -1 ∨ (0 ≤ b ∧ b < n)) → o = (if 0 ≤ c then 255 else if 0 ≤ b then 15 else 3) → bk_MM_function_43 Q a b c t o τ := fun o q1 q2 q4 => by
    refine ⟨hc, fun e => k56 o q1 q2 (Or.inl e) q4, fun e => sm_isNet hc (by omega) ⟨fun q => ⟨by decide, fun x => absurd x (by decide), fun _ => k56 o q1 q2 (Or.inr (by omega)) q4⟩, fun q => ⟨by decide, fun _ => k1 (Or.inr (Or.inr (Or.inl ⟨e, by omega⟩))), fun x => absurd rfl x⟩⟩⟩
  have k20 : ∀ o, o = (if 0 ≤ c then 255 else if 0 ≤ b then 15 else 3) → bk_MM_function_20 Q a b c t o τ := fun o q4 => by
    refine sm_isNet ha (by omega) ⟨fun q => ⟨by decide, fun x => absurd x (by decide), fun _ => ⟨hb, fun e => k43 o (by omega) (Or.inl e) q4, fun e => sm_isNet hb (by omega) ⟨fun q => ⟨by decide, fun x => absurd x (by decide), fun _ => k43 o (by omega) (Or.inr (by omega)) q4⟩, fun q => ⟨by decide, fun _ => k1 (Or.inr (Or.inl ⟨e, by omega⟩)), fun x => absurd rfl x⟩⟩⟩⟩, fun q => ⟨by decide, fun _ => k1 (Or.inl (by omega)), fun x => absurd rfl x⟩⟩
  refine ⟨hc, fun e => ⟨hb, fun e2 => k20 3 (by rw [if_neg (by omega), if_neg (by omega)]), fun e2 => k20 15 (by rw [if_neg (by omega), if_pos (by omega)])⟩, fun e => k20 255 (by rw [if_pos (by omega)])⟩
/-- CellMapper's checks -/
theorem sx_func {σ : zS} {Q : Int → zS → Prop} {a b c t n : Int} (hn : σ 40 1 = n) (n0 : 0 ≤ n) (n1 : n ≤ 40) (hnet : ∀ j : Int, 0 ≤ j → j < σ 40 1 → 0 ≤ σ 42 j ∧ σ 42 j < σ 70 0) (ha : zc a) (hb : zc b) (hc : zc c) (k1 : ¬ (0 ≤ a ∧ a < n) ∨ (b ≠ -1 ∧ ¬ (0 ≤ b ∧ b < n)) ∨ (c ≠ -1 ∧ ¬ (0 ≤ c ∧ c < n)) ∨ (b = -1 ∧ c ≠ -1) → Q (-1) σ) (k2 : ((0 ≤ a ∧ a < n) ∧ (b = -1 ∨ (0 ≤ b ∧ b < n)) ∧ (c = -1 ∨ (0 ≤ c ∧ c < n)) ∧ (b = -1 → c = -1)) → bk_CX_function_77 Q t (atN σ a) (atN σ b) (atN σ c) (if 0 ≤ c then 3 else if 0 ≤ b then 2 else 1) σ) : wp_CX_function Q a b c t σ := by
  have at0 : ∀ x, 0 ≤ x ∧ x < n → 0 ≤ atN σ x := fun x hx => by
    rw [atN_in (by omega)]
    exact (hnet x hx.1 (by omega)).1
  have at1 : ∀ x, ¬ (0 ≤ x ∧ x < n) → atN σ x = -1 := fun x hx => atN_out (by omega)
  have zl : zle σ σ := ⟨Int.le_refl _, Int.le_refl _, Int.le_refl _⟩
  have k58 : ((0 ≤ a ∧ a < n) ∧ (b = -1 ∨ (0 ≤ b ∧ b < n)) ∧ (c = -1 ∨ (0 ≤ c ∧ c < n)) ∧ (b = -1 → c = -1)) → bk_CX_function_58 Q t (atN σ a) (atN σ b) (atN σ c) σ := fun q => by
    have hk := k2 q
    have qb := at0 b
    have qb1 := at1 b
    have qc := at0 c
    have qc1 := at1 c
    refine ⟨fun e => ⟨fun e2 => ?_, fun e2 => ?_⟩, fun e => ?_⟩
    · rw [if_neg (by omega), if_neg (by omega)] at hk
      exact hk
    · rw [if_neg (by omega), if_pos (by omega)] at hk
      exact hk
    · rw [if_pos (by omega)] at hk
      exact hk
  have k46 : (0 ≤ a ∧ a < n) → (b = -1 ∨ (0 ≤ b ∧ b < n)) → (c = -1 ∨ (0 ≤ c ∧ c < n)) → bk_CX_function_46 Q t (atN σ a) (atN σ b) (atN σ c) σ := fun q1 q2 q3 => by
    have qb := at0 b
    have qb1 := at1 b
    have qc := at0 c
    have qc1 := at1 c
    exact ⟨fun e => ⟨fun e2 => k58 ⟨q1, q2, q3, fun _ => by omega⟩, fun e2 => k1 (Or.inr (Or.inr (Or.inr ⟨by omega, by omega⟩)))⟩, fun e => k58 ⟨q1, q2, q3, fun e2 => by omega⟩⟩
  have k36 : (0 ≤ a ∧ a < n) → (b = -1 ∨ (0 ≤ b ∧ b < n)) → bk_CX_function_36 Q c t (atN σ a) (atN σ b) (atN σ c) σ := fun q1 q2 => by
    have qc := at0 c
    have qc1 := at1 c
    exact ⟨fun e => ⟨hc, fun e2 => k46 q1 q2 (Or.inl e2), fun e2 => k1 (Or.inr (Or.inr (Or.inl ⟨e2, by omega⟩)))⟩, fun e => k46 q1 q2 (Or.inr (by omega))⟩
  refine sx_at ha (by omega) hnet ⟨zl, sx_at hb (by omega) hnet ⟨zl, sx_at hc (by omega) hnet ⟨zl, ?_⟩⟩⟩
  have qa := at0 a
  have qa1 := at1 a
  have qb := at0 b
  have qb1 := at1 b
  exact ⟨fun e => k1 (Or.inl (by omega)), fun e => ⟨fun e2 => ⟨hb, fun e3 => k36 (by omega) (Or.inl e3), fun e3 => k1 (Or.inr (Or.inl ⟨e3, by omega⟩))⟩, fun e2 => k36 (by omega) (Or.inr (by omega))⟩⟩
theorem op_function {σ : zS} {L : Gr} {pt : Int → Pat} {Q : zS → Prop} {a b c t : Int} (h : BW σ L pt) (ha : zc a) (hb : zc b) (hc : zc c) (ht : zc t) (hQ : Q σ) (hQ2 : ∀ υ L', BW υ L' pt → υ 56 0 = 0 → Q υ) : wp_CX_function (fun r τ => wp_MM_function (fun r' υ => r' = r ∧ Q υ) a b c t τ) a b c t σ := by
  have n0 := h.n0
  have n1 := h.n1
  have n2 := h.n2
  have e40 := h.e40
  have e113 := h.e113
  have hl := h.len
  refine sx_func rfl n0 n1 h.net7 ha hb hc (fun q => ?_) (fun q => ?_)
  · exact sm_func n2 n0 n1 ha hb hc ht (fun _ => ⟨rfl, hQ⟩) (fun o q2 _ => absurd q (by omega))
  obtain ⟨qa, qb, qc, qbc⟩ := q
  have hna := h.net a qa.1 qa.2
  have hnb : 0 ≤ b → 0 ≤ σ 42 b ∧ σ 42 b < L.length ∧ σ 102 b = σ 42 b := fun q => by
    have := h.net b q (by omega)
    exact ⟨this.1, this.2.1, this.2.2.1⟩
  have hnc : 0 ≤ c → 0 ≤ σ 42 c ∧ σ 42 c < L.length ∧ σ 102 c = σ 42 c := fun q => by
    have := h.net c q (by omega)
    exact ⟨this.1, this.2.1, this.2.2.1⟩
  have M : ∀ {Q' : Int → zS → Prop}, ∀ τ, τ 100 0 = σ 40 1 → (∀ o, o = (if 0 ≤ c then 255 else if 0 ≤ b then 15 else 3) → bk_MM_function_68 Q' a b c t o τ) → wp_MM_function Q' a b c t τ := fun τ e k => sm_func e n0 n1 ha hb hc ht (fun q => absurd q (by omega)) (fun o _ q4 => k o q4)
  have all : (zshl 1 (zshl 1 (if 0 ≤ c then 3 else if 0 ≤ b then 2 else 1)) - 1 : Int) = (if 0 ≤ c then 255 else if 0 ≤ b then 15 else 3) := by
    split
    · decide
    · split <;> decide
  have ob : (if 0 ≤ c then (255 : Int) else if 0 ≤ b then 15 else 3) = 255 ∨ (if 0 ≤ c then (255 : Int) else if 0 ≤ b then 15 else 3) = 15 ∨ (if 0 ≤ c then (255 : Int) else if 0 ≤ b then 15 else 3) = 3 := by
    split
    · exact Or.inl rfl
    · split
      · exact Or.inr (Or.inl rfl)
      · exact Or.inr (Or.inr rfl)
  intro y hy
  rw [all] at hy
  refine ⟨ht, fun q => M σ n2 (fun o _ => ⟨ht, fun _ => ⟨rfl, hQ⟩, fun q2 => absurd q q2⟩), fun q => ⟨by omega, fun q1 => ⟨by omega, fun q2 => ?_, fun q2 => ⟨by omega, fun q3 => ?_, fun q3 => ?_⟩⟩, fun q1 => ?_⟩⟩
  · exact M σ n2 (fun o ho => ⟨ht, fun q' => absurd q' q, fun _ => ⟨by omega, fun _ => ⟨by omega, fun _ => ⟨rfl, hQ⟩, fun q' => absurd q2 (by omega)⟩, fun q' => absurd q1 (by omega)⟩⟩)
  · -- built
    have fin : ∀ (R : Gr) (r : Int) (f : (Int → Int) → Int), gop L 16 f (R, r) → (∀ v, (∀ i : Int, v i = 0 ∨ v i = 1) → f v = tb t (v (σ 42 a) + (if 0 ≤ b then 2 * v (σ 42 b) else 0) + (if 0 ≤ c then 4 * v (σ 42 c) else 0))) → (∀ (Q' : Int → zS → Prop) (τ : zS), mG τ L → (∀ j, τ 102 j = σ 102 j) → (∀ τ', mG τ' R → mE τ τ' → Q' r τ') → (c < 0 → (b < 0 → wp_MM_overOne Q' a t τ) ∧ (¬ b < 0 → wp_MM_overTwo Q' a b t τ)) ∧ (¬ c < 0 → wp_MM_overThree Q' a b c t τ)) → ∀ τ, xG τ R → xE σ τ → wp_CX_net (fun r20 σ18 => wp_MM_function (fun r' υ => r' = r20 ∧ Q υ) a b c t σ18) r τ := by
      intro R r f hop hf hov τ hx he
      obtain ⟨p1, p2, p3, p4, p5, p6⟩ := hop
      have p3 : R.length ≤ L.length + 16 := p3
      have s40 : ∀ l : Int, l ≠ 0 → τ 40 l = σ 40 l := he.2.2.1
      have t70 := hx.2.1
      refine sx_net hx.2.2.2.1 p4 (by rw [t70]; exact p5) (by rw [s40 1 (by decide)]; exact n0) (by rw [s40 1 (by decide)]; omega) (by rw [s40 3 (by decide)]; exact h.l0) (by rw [s40 3 (by decide)]; have := h.l1; omega) (fun k k0 k1 => ?_) (fun cc m τ1 hw hch => ?_)
      · rw [s40 3 (by decide)] at k1
        rw [he.1 44 (by decide), t70]
        have := h.lat k k0 k1
        have p2' : L.length ≤ R.length := p2.length_le
        omega
      · have hxf := xfun_of h.xg hx he hw hch
        have T : ∀ f, 100 ≤ f → τ1 f = σ f := fun f hf => hxf.1 f (by simp [xfunk]; omega)
        have t100 : τ1 100 0 = σ 40 1 := by rw [T 100 (by decide)]; exact n2
        have t113 : τ1 113 0 = L.length := by rw [T 113 (by decide)]; exact e113
        have tg : mG τ1 L := h.mg.sm (by rw [T 113 (by decide)]) (T 114 (by decide)) (T 115 (by decide)) (T 116 (by decide))
        rw [s40 1 (by decide)]
        refine M τ1 t100 (fun o ho => ⟨ht, fun q' => absurd q' q, fun _ => ⟨by omega, fun _ => ⟨by omega, fun q' => absurd q' (by omega), fun _ => ⟨by omega, fun _ => ⟨by omega, by omega, ?_⟩, fun q' => absurd q3 (by omega)⟩⟩, fun q' => absurd q1 (by omega)⟩⟩)
        rintro _ rfl
        rw [zup_ne τ1 _ _ 0 (by decide)]
        refine ⟨by omega, by omega, ?_⟩
        rintro _ rfl
        rw [zup_ne _ _ _ 0 (by decide), zup_ne τ1 _ _ 0 (by decide)]
        refine ⟨by omega, by omega, ?_⟩
        rintro _ rfl
        rw [zup_ne _ _ _ 0 (by decide), zup_ne _ _ _ 0 (by decide), zup_ne τ1 _ _ 0 (by decide)]
        refine ⟨by omega, by omega, ?_⟩
        rintro _ rfl
        have e2 : zup (zup (zup (zup τ1 106 (τ1 100 0) a) 107 (τ1 100 0) b) 108 (τ1 100 0) c) 109 (τ1 100 0) t = mnote τ1 (τ1 100 0) a b c t := rfl
        rw [e2]
        have ng : mG (mnote τ1 (τ1 100 0) a b c t) L := tg.sm (by rw [mnote_o _ _ _ _ _ _ _ (by decide)]) (mnote_o _ _ _ _ _ _ _ (by decide)) (mnote_o _ _ _ _ _ _ _ (by decide)) (mnote_o _ _ _ _ _ _ _ (by decide))
        have last : ∀ τ', mG τ' R → mE (mnote τ1 (τ1 100 0) a b c t) τ' → bk_MM_function_182 (fun r' υ => r' = σ 40 1 ∧ Q υ) r τ' := fun τ' g' e' => by
          have e100 : τ' 100 0 = σ 40 1 := by rw [e'.1 100 (by decide), mnote_o _ _ _ _ _ _ _ (by decide), t100]
          refine sm_newNet (by omega) (by omega) (fun υ hu => ⟨e100, ?_⟩)
          have hm := mfun_of tg g' e' hu
          rw [t100] at hm
          refine hQ2 υ R (BW_func h p2 (by omega) (by omega) ⟨p4, p5⟩ qa qb qc ⟨by omega, by omega⟩ (fun v hv => ?_) hxf hm) ?_
          · rw [← hf v hv.1]
            exact p6 v hv
          · rw [hm.1 56 (by decide)]
            exact hxf.2.2.2.2.2.2.1
        have ov := hov (fun r28 σ27 => bk_MM_function_182 (fun r' υ => r' = σ 40 1 ∧ Q υ) r28 σ27) _ ng (fun j => by rw [mnote_o _ _ _ _ _ _ _ (by decide), T 102 (by decide)]) last
        exact ⟨hc, fun z => ⟨hb, fun z2 => (ov.1 z).1 z2, fun z2 => (ov.1 z).2 z2⟩, fun z => ov.2 z⟩
    rw [atN_in (σ := σ) qa]
    by_cases zc' : 0 ≤ c
    · have hb' : 0 ≤ b := by omega
      have nb := hnb hb'
      have nc := hnc zc'
      rw [atN_in (σ := σ) (a := b) (by omega), atN_in (σ := σ) (a := c) (by omega), if_pos zc']
      rw [if_pos zc'] at hy
      refine sx_b3_3 h.xg (by omega) hna.1 hna.2.1 nb.1 nb.2.1 nc.1 nc.2.1 (by omega) (by omega) (fin _ _ _ (gov3_op h.xg.2.2.1 hna.1 hna.2.1 nb.1 nb.2.1 nc.1 nc.2.1 (by omega) (by omega)) (fun v _ => by rw [if_pos hb', if_pos zc']) (fun Q' τ tg t2 k => ⟨fun z => absurd z (by omega), fun _ => ?_⟩))
      have ea : τ 102 a = σ 42 a := by rw [t2]; exact hna.2.2.1
      have eb : τ 102 b = σ 42 b := by rw [t2]; exact nb.2.2
      have ec : τ 102 c = σ 42 c := by rw [t2]; exact nc.2.2
      refine sm_over3 tg (by omega) qa.1 (by omega) (by omega) (by omega) hb' (by omega) (by omega) (by omega) zc' (by omega) (by omega) (by omega) (by omega) (by omega) ?_
      rw [ea, eb, ec]
      exact k
    · rw [if_neg zc'] at hy ⊢
      by_cases zb' : 0 ≤ b
      · have nb := hnb zb'
        rw [if_pos zb'] at hy ⊢
        rw [atN_in (σ := σ) (a := b) (by omega), atN_out (σ := σ) (a := c) (by omega)]
        have g2 := gov2_op h.xg.2.2.1 hna.1 hna.2.1 nb.1 nb.2.1 (t := t) (by omega) (by omega)
        refine sx_b3_2 h.xg (by omega) hna.1 hna.2.1 nb.1 nb.2.1 (Or.inl rfl) (by omega) (by omega) (fin _ _ _ ⟨g2.1, g2.2.1, Nat.le_trans g2.2.2.1 (by omega), g2.2.2.2⟩ (fun v _ => by rw [if_pos zb', if_neg zc']; simp) (fun Q' τ tg t2 k => ⟨fun _ => ⟨fun z => absurd z (by omega), fun _ => ?_⟩, fun z => absurd z (by omega)⟩))
        have ea : τ 102 a = σ 42 a := by rw [t2]; exact hna.2.2.1
        have eb : τ 102 b = σ 42 b := by rw [t2]; exact nb.2.2
        refine sm_over2 tg (by omega) qa.1 (by omega) (by omega) (by omega) zb' (by omega) (by omega) (by omega) (by omega) (by omega) ?_
        rw [ea, eb]
        exact k
      · rw [if_neg zb'] at hy ⊢
        have g1 := gov1_op h.xg.2.2.1 hna.1 hna.2.1 (t := t) (by omega)
        refine sx_b3_1 h.xg (by omega) hna.1 hna.2.1 (by omega) (fin _ _ _ ⟨g1.1, g1.2.1, Nat.le_trans g1.2.2.1 (by omega), g1.2.2.2⟩ (fun v _ => by rw [if_neg zb', if_neg zc']; simp) (fun Q' τ tg t2 k => ⟨fun _ => ⟨fun _ => ?_, fun z => absurd z (by omega)⟩, fun z => absurd z (by omega)⟩))
        have ea : τ 102 a = σ 42 a := by rw [t2]; exact hna.2.2.1
        refine sm_over1 tg (by omega) qa.1 (by omega) (by omega) (by omega) (by omega) ?_
        rw [ea]
        exact k
  · exact M σ n2 (fun o ho => ⟨ht, fun q' => absurd q' q, fun _ => ⟨by omega, fun _ => ⟨by omega, fun q' => absurd q' (by omega), fun _ => ⟨by omega, fun q' => absurd q3 (by omega), fun _ => ⟨rfl, hQ⟩⟩⟩, fun q' => absurd q1 (by omega)⟩⟩)
  · exact M σ n2 (fun o ho => ⟨ht, fun q' => absurd q' q, fun _ => ⟨by omega, fun q' => absurd q1 (by omega), fun _ => ⟨rfl, hQ⟩⟩⟩)
