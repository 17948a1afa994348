/-! the retimed circuit in one cycle: what the signals are -/
/-- what comes out of connection k -/
def arr (σ : zS) (s : Int → Int) (k : Int) : Int := if σ 52 k = 0 then s (σ 51 k) else σ 54 k / 2 ^ (σ 52 k - 1).toNat % 2
def gv (σ : zS) (pt : Int → Pat) (s : Int → Int) (n : Int) : Int := pval (pt (σ 14 n)) (fun p => arr σ s (4 * n + p)) 0
noncomputable def rk (σ : zS) (L : Gr) (key : Int → Int) (n : Int) : Int := cnt (fun i => σ 11 i = 1 ∧ key i < key n) L.length
/-- the signals in t rounds -/
def sgs (σ : zS) (L : Gr) (pt : Int → Pat) (inp : Int → Int) : Nat → Int → Int
  | 0 => inp
  | t + 1 => fun n => if 0 ≤ n ∧ n < L.length ∧ σ 11 n = 1 then gv σ pt (sgs σ L pt inp t) n else inp n
def sg (σ : zS) (L : Gr) (pt : Int → Pat) (inp : Int → Int) : Int → Int := sgs σ L pt inp 48
theorem osum_bit {f : Int → Int} : ∀ (m : Nat), (∀ k : Int, 0 ≤ k → k < m → f k = 0 ∨ f k = 1) → ∀ (p : Nat), p < m → osum f m / 2 ^ p % 2 = f p
  | 0, _, p, hp => absurd hp (by omega)
  | m + 1, h, p, hp => by
    have hb := osum_b m (fun k k0 k1 => h k k0 (by omega))
    have hm := h m (by omega) (by omega)
    simp only [osum]
    by_cases e : p = m
    · subst e
      have hpos : (0 : Int) < 2 ^ p := Int.pow_pos (by decide)
      rw [Int.add_mul_ediv_right _ _ (by omega), Int.ediv_eq_zero_of_lt hb.1 hb.2]
      omega
    · have ih := osum_bit m (fun k k0 k1 => h k k0 (by omega)) p (by omega)
      obtain ⟨j, rfl⟩ : ∃ j, m = p + 1 + j := ⟨m - p - 1, by omega⟩
      have hpos : (0 : Int) < 2 ^ p := Int.pow_pos (by decide)
      have e2 : f ((p + 1 + j : Nat) : Int) * 2 ^ (p + 1 + j) = (2 * (f ((p + 1 + j : Nat) : Int) * 2 ^ j)) * 2 ^ p := by
        rw [Int.pow_add, Int.pow_succ]
        ac_rfl
      rw [e2, Int.add_mul_ediv_right _ _ (by omega)]
      omega
theorem pbit_osum {f : Int → Int} {m : Int} (m0 : 0 ≤ m) (m1 : m ≤ 20) (h : ∀ k : Int, 0 ≤ k → k < m → f k = 0 ∨ f k = 1) {p : Int} (p0 : 0 ≤ p) (p1 : p < m) : pbit (osum f m.toNat) p = f p := by
  have hb := osum_b (f := f) m.toNat (fun k k0 k1 => h k k0 (by omega))
  have h2 : (2 : Int) ^ m.toNat ≤ 2 ^ 20 := by
    have := Nat.pow_le_pow_right (n := 2) (by decide) (show m.toNat ≤ 20 by omega)
    exact_mod_cast this
  have h3 : (2 : Int) ^ 20 = 1048576 := by decide
  have := z_bit (x := osum f m.toNat) (k := p.toNat) (by omega) (by omega)
  rw [show ((p.toNat : Nat) : Int) = p by omega] at this
  unfold pbit
  rw [this, osum_bit m.toNat (fun k k0 k1 => h k k0 (by omega)) p.toNat (by omega), show ((p.toNat : Nat) : Int) = p by omega]
/-- a gate's connections -/
theorem lk_pin {σ : zS} {L : Gr} {pt : Int → Pat} (h : BW σ L pt) (hm : MP σ L) {n p : Int} (n0 : 0 ≤ n) (n1 : n < L.length) (hg : σ 11 n = 1) (p0 : 0 ≤ p) (p1 : p < σ 24 (σ 14 n)) : 0 ≤ 4 * n + p ∧ 4 * n + p < 192 ∧ (4 * n + p) / 4 = n ∧ lkX σ L.length (4 * n + p) := by
  obtain ⟨d1, d2, -⟩ := hm.2.1 n n0 n1 hg
  have := h.pins d1 d2
  have hl := h.len
  refine ⟨by omega, by omega, by omega, Or.inl ⟨by omega, by omega, ?_, ?_, ?_⟩⟩
  · rw [show (4 * n + p) / 4 = n by omega]; exact n1
  · rw [show (4 * n + p) / 4 = n by omega]; exact hg
  · rw [show (4 * n + p) / 4 = n by omega, show (4 * n + p) % 4 = p by omega]; exact p1
theorem gv_congr {σ : zS} {L : Gr} {pt : Int → Pat} (h : BW σ L pt) (hm : MP σ L) {s s' : Int → Int} {n : Int} (n0 : 0 ≤ n) (n1 : n < L.length) (hg : σ 11 n = 1) (hs : ∀ p : Int, 0 ≤ p → p < σ 24 (σ 14 n) → σ 52 (4 * n + p) = 0 → s (σ 51 (4 * n + p)) = s' (σ 51 (4 * n + p))) : gv σ pt s n = gv σ pt s' n := by
  obtain ⟨d1, d2, -⟩ := hm.2.1 n n0 n1 hg
  have := h.pins d1 d2
  unfold gv
  refine pval_congr _ _ (fun p p0 p1 => ?_)
  unfold arr
  by_cases e : σ 52 (4 * n + p) = 0
  · rw [if_pos e, if_pos e]
    exact hs p p0 (by omega) e
  · rw [if_neg e, if_neg e]
theorem rk_lt {σ : zS} {L : Gr} {key : Int → Int} {u n : Int} (u0 : 0 ≤ u) (u1 : u < L.length) (hu : σ 11 u = 1) (hk : key u < key n) : rk σ L key u + 1 ≤ rk σ L key n :=
  cnt_lt (x := u) _ (fun i _ _ q => ⟨q.1, by omega⟩) u0 u1 (fun q => by omega) ⟨hu, hk⟩
theorem rk_b {σ : zS} {L : Gr} {key : Int → Int} (hl : L.length ≤ 48) {n : Int} (n0 : 0 ≤ n) (n1 : n < L.length) : 0 ≤ rk σ L key n ∧ rk σ L key n < 48 := by
  refine ⟨cnt_ge _ _, ?_⟩
  have h1 := cnt_lt (p := fun i => σ 11 i = 1 ∧ key i < key n) (q := fun _ => True) L.length (fun _ _ _ _ => trivial) n0 n1 (fun q => by omega) trivial
  have h2 := cnt_le (fun _ => True) L.length
  unfold rk
  omega
theorem sgs_st {σ : zS} {L : Gr} {pt : Int → Pat} (h : BW σ L pt) (hm : MP σ L) {key : Int → Int} (hk : ∀ k : Int, 0 ≤ k → k < 192 → lkX σ L.length k → σ 52 k = 0 → σ 11 (σ 51 k) = 1 → key (σ 51 k) < key (k / 4)) (inp : Int → Int) : ∀ (t : Nat) (n : Int), 0 ≤ n → n < L.length → (σ 11 n = 1 → rk σ L key n < t) → sgs σ L pt inp (t + 1) n = sgs σ L pt inp t n
  | 0, n, n0, n1, hr => by
    have := rk_b (σ := σ) (key := key) h.len n0 n1
    simp only [sgs]
    rw [if_neg (fun q => by have := hr q.2.2; omega)]
  | t + 1, n, n0, n1, hr => by
    by_cases hg : σ 11 n = 1
    · have hr := hr hg
      show (if 0 ≤ n ∧ n < L.length ∧ σ 11 n = 1 then gv σ pt (sgs σ L pt inp (t + 1)) n else inp n) = (if 0 ≤ n ∧ n < L.length ∧ σ 11 n = 1 then gv σ pt (sgs σ L pt inp t) n else inp n)
      rw [if_pos ⟨n0, n1, hg⟩, if_pos ⟨n0, n1, hg⟩]
      refine gv_congr h hm n0 n1 hg (fun p p0 p1 e => ?_)
      obtain ⟨l0, l1, l2, lk⟩ := lk_pin h hm n0 n1 hg p0 p1
      obtain ⟨s0, s1, s2, -⟩ := hm.2.2.2.2.1 _ l0 (by omega) lk
      refine sgs_st h hm hk inp t _ s0 s1 (fun hg2 => ?_)
      have := hk _ l0 l1 lk e hg2
      rw [l2] at this
      have := rk_lt (σ := σ) s0 s1 hg2 this
      omega
    · show (if 0 ≤ n ∧ n < L.length ∧ σ 11 n = 1 then gv σ pt (sgs σ L pt inp (t + 1)) n else inp n) = (if 0 ≤ n ∧ n < L.length ∧ σ 11 n = 1 then gv σ pt (sgs σ L pt inp t) n else inp n)
      rw [if_neg (fun q => hg q.2.2), if_neg (fun q => hg q.2.2)]
theorem sg_gate {σ : zS} {L : Gr} {pt : Int → Pat} (h : BW σ L pt) (hm : MP σ L) {inp : Int → Int} {n : Int} (n0 : 0 ≤ n) (n1 : n < L.length) (hg : σ 11 n = 1) : sg σ L pt inp n = gv σ pt (sg σ L pt inp) n := by
  obtain ⟨key, hk⟩ := hm.2.2.2.2.2.2
  have := sgs_st h hm hk inp 48 n n0 n1 (fun _ => (rk_b h.len n0 n1).2)
  unfold sg
  rw [← this]
  show (if 0 ≤ n ∧ n < L.length ∧ σ 11 n = 1 then gv σ pt (sgs σ L pt inp 48) n else inp n) = _
  rw [if_pos ⟨n0, n1, hg⟩]
theorem sg_in {σ : zS} {L : Gr} {pt : Int → Pat} {inp : Int → Int} {n : Int} (hg : σ 11 n ≠ 1) : sg σ L pt inp n = inp n := by
  show (if 0 ≤ n ∧ n < L.length ∧ σ 11 n = 1 then gv σ pt (sgs σ L pt inp 47) n else inp n) = _
  rw [if_neg (fun q => hg q.2.2)]
theorem arr_01 {σ : zS} {s : Int → Int} (hs : ∀ i, s i = 0 ∨ s i = 1) (k : Int) : arr σ s k = 0 ∨ arr σ s k = 1 := by
  unfold arr
  split
  · exact hs _
  · omega
theorem sgs_01 {σ : zS} {L : Gr} {pt : Int → Pat} {inp : Int → Int} (hi : ∀ i, inp i = 0 ∨ inp i = 1) : ∀ (t : Nat) (n : Int), sgs σ L pt inp t n = 0 ∨ sgs σ L pt inp t n = 1
  | 0, n => hi n
  | t + 1, n => by
    simp only [sgs]
    split
    · exact pval_01 (fun p => arr_01 (sgs_01 hi t) _) _ _
    · exact hi n
theorem sg_01 {σ : zS} {L : Gr} {pt : Int → Pat} {inp : Int → Int} (hi : ∀ i, inp i = 0 ∨ inp i = 1) (n : Int) : sg σ L pt inp n = 0 ∨ sg σ L pt inp n = 1 := sgs_01 hi 48 n
/-- values that are what the gates ask for are the signals -/
theorem sg_uniq {σ : zS} {L : Gr} {pt : Int → Pat} (h : BW σ L pt) (hm : MP σ L) {inp s : Int → Int} (hi : ∀ n : Int, 0 ≤ n → n < L.length → σ 1 n = 0 → s n = inp n) (hf : ∀ n : Int, 0 ≤ n → n < L.length → σ 11 n = 1 → s n = gv σ pt s n) : ∀ n : Int, 0 ≤ n → n < L.length → σ 11 n = 1 → s n = sg σ L pt inp n := by
  obtain ⟨key, hk⟩ := hm.2.2.2.2.2.2
  have H : ∀ (r : Nat) (n : Int), 0 ≤ n → n < L.length → σ 11 n = 1 → rk σ L key n < r → s n = sg σ L pt inp n := by
    intro r
    induction r with
    | zero =>
      intro n n0 n1 _ hr
      have := rk_b (σ := σ) (key := key) h.len n0 n1
      omega
    | succ r ih =>
      intro n n0 n1 hg hr
      rw [hf n n0 n1 hg, sg_gate h hm n0 n1 hg]
      refine gv_congr h hm n0 n1 hg (fun p p0 p1 e => ?_)
      obtain ⟨l0, l1, l2, lk⟩ := lk_pin h hm n0 n1 hg p0 p1
      obtain ⟨s0, s1, s2, -⟩ := hm.2.2.2.2.1 _ l0 (by omega) lk
      by_cases hg2 : σ 11 (σ 51 (4 * n + p)) = 1
      · have := hk _ l0 l1 lk e hg2
        rw [l2] at this
        have := rk_lt (σ := σ) s0 s1 hg2 this
        exact ih _ s0 s1 hg2 (by omega)
      · rw [sg_in hg2]
        exact hi _ s0 s1 (by omega)
  exact fun n n0 n1 hg => H 48 n n0 n1 hg (rk_b h.len n0 n1).2
theorem sx_arrives {σ τ : zS} {L : Gr} {Q : Int → zS → Prop} {k : Int} (hm : MP σ L) (e70 : τ 70 0 = L.length) (t51 : τ 51 = σ 51) (t52 : τ 52 = σ 52) (t54 : τ 54 = σ 54) (k0 : 0 ≤ k) (k1 : k < 196) (hk : lkX σ L.length k) (hQ : Q (arr σ (τ 6) k) τ) : wp_CX_arrives Q k τ := by
  obtain ⟨b1, b2, b3, b4, b5, b6, b7, b8, b9, b10, b11, b12, b13⟩ := hm.2.2.2.2.1 k k0 k1 hk
  refine ⟨k0, k1, ?_⟩
  rintro _ rfl
  rw [t51, t52, t54]
  unfold arr at hQ
  refine ⟨by omega, fun q => ⟨b1, by omega, by rw [if_pos q] at hQ; exact hQ⟩, fun q => ?_⟩
  rw [if_neg q] at hQ
  have hp : (2 : Int) ^ (σ 52 k).toNat ≤ 2 ^ 60 := by
    have := Nat.pow_le_pow_right (n := 2) (by decide) (show (σ 52 k).toNat ≤ 60 by omega)
    exact_mod_cast this
  have h60 : (2 : Int) ^ 60 = 1152921504606846976 := by decide
  have hz : zd (σ 54 k) := by omega
  have := b_lushr (k := (σ 52 k - 1).toNat) hz b8 (by omega)
  rw [show (((σ 52 k - 1).toNat : Nat) : Int) = σ 52 k - 1 by omega] at this
  rw [this, z_lm1 ?_]
  · exact hQ
  · have hh : 0 ≤ σ 54 k / 2 ^ (σ 52 k - 1).toNat ∧ σ 54 k / 2 ^ (σ 52 k - 1).toNat ≤ σ 54 k := ⟨Int.ediv_nonneg b8 (Int.le_of_lt (Int.pow_pos (by decide))), Int.ediv_le_self _ b8⟩
    omega
/-- what a connection's latches are after a cycle -/
def nxt (σ : zS) (s : Int → Int) (k : Int) : Int := if 0 < σ 52 k then (2 * σ 54 k + s (σ 51 k)) % 2 ^ (σ 52 k).toNat else σ 54 k
theorem nxt_z {v w s : Int} (w0 : 0 < w) (w1 : w ≤ 60) (v0 : 0 ≤ v) (v1 : v < 2 ^ w.toNat) (hs : s = 0 ∨ s = 1) : zland (zlor (zlshl v 1) s) (zlshl 1 w - 1) = (2 * v + s) % 2 ^ w.toNat := by
  have hp : (2 : Int) ^ w.toNat ≤ 2 ^ 60 := by
    have := Nat.pow_le_pow_right (n := 2) (by decide) (show w.toNat ≤ 60 by omega)
    exact_mod_cast this
  have h60 : (2 : Int) ^ 60 = 1152921504606846976 := by decide
  have h61 : (2 : Int) ^ 61 = 2305843009213693952 := by decide
  rw [z_lin v0 (by omega) hs]
  have := z_lshl1 w.toNat (by omega)
  rw [show ((w.toNat : Nat) : Int) = w by omega] at this
  rw [this, z_lmk (by omega) (by omega)]
