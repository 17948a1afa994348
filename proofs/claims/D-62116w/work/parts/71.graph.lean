/-! the graph of nodes as a list of (kind, x, y): what both classes do to it -/
abbrev Gr : Type := List (Int × Int × Int)
def gidx (a : Int × Int × Int) : Gr → Option Nat
  | [] => none
  | b :: l => if b = a then some 0 else (gidx a l).map (· + 1)
theorem gidx_some (a : Int × Int × Int) : ∀ (L : Gr) (v : Nat), (∀ j : Nat, j < v → L[j]? ≠ some a) → L[v]? = some a → gidx a L = some v
  | [], v, _, h => by simp at h
  | b :: l, 0, _, h => by
    have : b = a := by simpa using h
    simp [gidx, this]
  | b :: l, v + 1, hn, h => by
    have h0 : ¬ b = a := by simpa using hn 0 (by omega)
    have := gidx_some a l v (fun j hj => by simpa using hn (j + 1) (by omega)) (by simpa using h)
    simp [gidx, h0, this]
theorem gidx_none (a : Int × Int × Int) : ∀ (L : Gr), (∀ j : Nat, L[j]? ≠ some a) → gidx a L = none
  | [], _ => rfl
  | b :: l, hn => by
    have h0 : ¬ b = a := by simpa using hn 0
    have := gidx_none a l (fun j => by simpa using hn (j + 1))
    simp [gidx, h0, this]
theorem gidx_at (a : Int × Int × Int) : ∀ (L : Gr) (v : Nat), gidx a L = some v → L[v]? = some a
  | [], v, h => by simp [gidx] at h
  | b :: l, v, h => by
    by_cases h0 : b = a
    · simp [gidx, h0] at h
      subst h
      simp [h0]
    · simp only [gidx, h0, if_false] at h
      cases hl : gidx a l with
      | none => rw [hl] at h; cases h
      | some w =>
        rw [hl] at h
        cases h
        simpa using gidx_at a l w hl
def gfind (L : Gr) (k x y : Int) : Gr × Int := match gidx (k, x, y) L with
  | some i => (L, (i : Int))
  | none => (L ++ [(k, x, y)], (L.length : Int))
def gK (L : Gr) (x : Int) : Int := (L.getD x.toNat (0, -1, -1)).1
def gX (L : Gr) (x : Int) : Int := (L.getD x.toNat (0, -1, -1)).2.1
def ginv (L : Gr) (x : Int) : Gr × Int := if gK L x = 3 then (L, gX L x) else gfind L 3 x (-1)
def gnand (L : Gr) (x y : Int) : Gr × Int := if x = y then ginv L x else if y ≤ x then gfind L 2 y x else gfind L 2 x y
/-- x's gated -/
def ggate (L : Gr) (x h one : Int) : Gr × Int := if one = 0 then ginv (gnand L x h).1 (gnand L x h).2 else gnand (ginv L h).1 x (ginv L h).2
def gjoin (L : Gr) (z low l high h : Int) : Gr × Int :=
  if low < 2 ∧ high < 2 then (if low = 0 then (L, z) else ginv L z)
  else if low < 2 then ggate L z h low
  else if high = 2 then
    let p := gnand L z h
    let q := ginv p.1 z
    let r := gnand q.1 q.2 l
    gnand r.1 p.2 r.2
  else ggate (ginv L z).1 (ginv L z).2 l high
def gfl (t ones : Int) : Int := if t = 0 then 0 else if t = ones then 1 else 2
def gov1 (L : Gr) (a t : Int) : Gr × Int := gjoin L a (t % 2) 0 (t / 2) 0
def gov2 (L : Gr) (a b t : Int) : Gr × Int :=
  if t % 4 = t / 4 then gov1 L a (t % 4)
  else
    let l := if gfl (t % 4) 3 = 2 then gov1 L a (t % 4) else (L, 0)
    let h := if gfl (t / 4) 3 = 2 then gov1 l.1 a (t / 4) else (l.1, 0)
    gjoin h.1 b (gfl (t % 4) 3) l.2 (gfl (t / 4) 3) h.2
def gov3 (L : Gr) (a b c t : Int) : Gr × Int :=
  if t % 16 = t / 16 then gov2 L a b (t % 16)
  else
    let l := if gfl (t % 16) 15 = 2 then gov2 L a b (t % 16) else (L, 0)
    let h := if gfl (t / 16) 15 = 2 then gov2 l.1 a b (t / 16) else (l.1, 0)
    gjoin h.1 c (gfl (t % 16) 15) l.2 (gfl (t / 16) 15) h.2
/-- parts come before what they are parts of -/
def gok (L : Gr) : Prop := ∀ (i : Nat) (k x y : Int), L[i]? = some (k, x, y) → ((k = 0 ∨ k = 1) ∧ x = -1 ∧ y = -1) ∨ (k = 2 ∧ 0 ≤ x ∧ x < y ∧ y < i) ∨ (k = 3 ∧ 0 ≤ x ∧ x < i ∧ y = -1)
def gval (L : Gr) (v : Int → Int) : Prop := (∀ i : Int, v i = 0 ∨ v i = 1) ∧ ∀ (i : Nat) (k x y : Int), L[i]? = some (k, x, y) → (k = 2 → v i = 1 - v x * v y) ∧ (k = 3 → v i = 1 - v x)
theorem gval.pre {L L' : Gr} {v : Int → Int} (h : gval L' v) (hp : L <+: L') : gval L v := by
  refine ⟨h.1, fun i k x y hi => h.2 i k x y ?_⟩
  obtain ⟨t, rfl⟩ := hp
  have := (List.getElem?_eq_some_iff.mp hi).1
  rw [List.getElem?_append_left this]
  exact hi
/-- what an operation does: the list goes on, at most n places more, the answer is a node whose value is f -/
def gop (L : Gr) (n : Nat) (f : (Int → Int) → Int) (r : Gr × Int) : Prop := gok r.1 ∧ L <+: r.1 ∧ r.1.length ≤ L.length + n ∧ 0 ≤ r.2 ∧ r.2 < r.1.length ∧ ∀ v, gval r.1 v → v r.2 = f v
theorem gfind_op {L : Gr} {k x y : Int} {f : (Int → Int) → Int} (h : gok L) (hn : (k = 2 ∧ 0 ≤ x ∧ x < y ∧ y < L.length) ∨ (k = 3 ∧ 0 ≤ x ∧ x < L.length ∧ y = -1)) (hf : ∀ v, (∀ i : Int, v i = 0 ∨ v i = 1) → f v = if k = 2 then 1 - v x * v y else 1 - v x) : gop L 1 f (gfind L k x y) := by
  unfold gfind
  cases hg : gidx (k, x, y) L with
  | some i =>
    have hi := gidx_at _ _ _ hg
    have hl := (List.getElem?_eq_some_iff.mp hi).1
    refine ⟨h, List.prefix_rfl, by simp, by simp, by simp; omega, fun v hv => ?_⟩
    have := hv.2 i k x y hi
    show v i = f v
    rw [hf v hv.1]
    by_cases hk : k = 2
    · rw [if_pos hk]
      exact this.1 hk
    · rw [if_neg hk]
      exact this.2 (by omega)
  | none =>
    refine ⟨?_, List.prefix_append _ _, by simp, by simp, by simp; omega, fun v hv => ?_⟩
    · intro i k' x' y' hi
      by_cases hl : i < L.length
      · rw [List.getElem?_append_left hl] at hi
        exact h i k' x' y' hi
      · have hl2 := (List.getElem?_eq_some_iff.mp hi).1
        simp at hl2
        have : i = L.length := by omega
        subst this
        simp at hi
        obtain ⟨rfl, rfl, rfl⟩ := hi
        rcases hn with hn | hn
        · exact Or.inr (Or.inl hn)
        · exact Or.inr (Or.inr hn)
    · have := hv.2 L.length k x y (by simp)
      show v (L.length : Nat) = f v
      rw [hf v hv.1]
      by_cases hk : k = 2
      · rw [if_pos hk]
        exact this.1 hk
      · rw [if_neg hk]
        exact this.2 (by omega)
theorem gr_at {L : Gr} {x : Int} (h0 : 0 ≤ x) (h1 : x < L.length) : ∃ k y z, L[x.toNat]? = some (k, y, z) ∧ gK L x = k ∧ gX L x = y := by
  have hx : x.toNat < L.length := by omega
  refine ⟨L[x.toNat].1, L[x.toNat].2.1, L[x.toNat].2.2, List.getElem?_eq_getElem hx, ?_, ?_⟩
  · simp [gK, List.getD, hx]
  · simp [gX, List.getD, hx]
theorem ginv_op {L : Gr} {x : Int} (h : gok L) (h0 : 0 ≤ x) (h1 : x < L.length) : gop L 1 (fun v => 1 - v x) (ginv L x) := by
  unfold ginv
  obtain ⟨k, y, z, hg, e1, e2⟩ := gr_at h0 h1
  rw [e1, e2]
  split
  · rename_i hk
    have := h _ _ _ _ hg
    refine ⟨h, List.prefix_rfl, by simp, by show 0 ≤ y; omega, by show y < (L.length : Int); omega, fun v hv => ?_⟩
    have h2 := (hv.2 _ _ _ _ hg).2 hk
    have e : ((x.toNat : Nat) : Int) = x := by omega
    rw [e] at h2
    show v y = 1 - v x
    omega
  · exact gfind_op h (Or.inr ⟨rfl, h0, h1, rfl⟩) (fun v _ => by simp)
theorem gnand_op {L : Gr} {x y : Int} (h : gok L) (h0 : 0 ≤ x) (h1 : x < L.length) (y0 : 0 ≤ y) (y1 : y < L.length) : gop L 1 (fun v => 1 - v x * v y) (gnand L x y) := by
  unfold gnand
  split
  · rename_i e
    subst e
    obtain ⟨a1, a2, a3, a4, a5, a6⟩ := ginv_op h h0 h1
    refine ⟨a1, a2, a3, a4, a5, fun v hv => ?_⟩
    rw [a6 v hv]
    dsimp only
    rcases hv.1 x with e | e <;> rw [e] <;> simp
  · split
    · exact gfind_op h (Or.inl ⟨rfl, y0, by omega, h1⟩) (fun v _ => by simp [Int.mul_comm])
    · exact gfind_op h (Or.inl ⟨rfl, h0, by omega, y1⟩) (fun v _ => by simp)
theorem gop.bind {L : Gr} {n m : Nat} {f g : (Int → Int) → Int} {p q : Gr × Int} (h : gop L n f p) (h2 : gok p.1 → 0 ≤ p.2 → p.2 < p.1.length → L.length ≤ p.1.length → gop p.1 m g q) {f' : (Int → Int) → Int} {k : Nat} (hk : n + m ≤ k) (hf : ∀ v, (∀ i : Int, v i = 0 ∨ v i = 1) → v p.2 = f v → f' v = g v) : gop L k f' q := by
  obtain ⟨a1, a2, a3, a4, a5, a6⟩ := h
  obtain ⟨b1, b2, b3, b4, b5, b6⟩ := h2 a1 a4 a5 a2.length_le
  refine ⟨b1, a2.trans b2, by omega, b4, b5, fun v hv => ?_⟩
  rw [b6 v hv, hf v hv.1 (a6 v (hv.pre b2))]
theorem ggate_op {L : Gr} {x h one : Int} (ho : gok L) (h0 : 0 ≤ x) (h1 : x < L.length) (y0 : 0 ≤ h) (y1 : h < L.length) (h01 : one = 0 ∨ one = 1) : gop L 2 (fun v => if v x = 0 then one else v h) (ggate L x h one) := by
  unfold ggate
  split
  · rename_i e
    refine (gnand_op ho h0 h1 y0 y1).bind (fun a b c _ => ginv_op a b c) (by omega) (fun v hv e1 => ?_)
    rw [e1, e]
    rcases hv x with e | e <;> simp [e] <;> omega
  · refine (ginv_op ho y0 y1).bind (fun a b c d => gnand_op a h0 (by omega) b c) (by omega) (fun v hv e1 => ?_)
    rw [e1]
    rcases hv x with e | e <;> simp [e] <;> omega
/-- the value of a half: 0, 1, or that of a node -/
def gsel (low l : Int) (v : Int → Int) : Int := if low < 2 then low else v l
theorem gjoin_op {L : Gr} {z low l high h : Int} (ho : gok L) (h0 : 0 ≤ z) (h1 : z < L.length) (hl : low = 0 ∨ low = 1 ∨ (low = 2 ∧ 0 ≤ l ∧ l < L.length)) (hh : high = 0 ∨ high = 1 ∨ (high = 2 ∧ 0 ≤ h ∧ h < L.length)) (hne : ¬ (low = 0 ∧ high = 0) ∧ ¬ (low = 1 ∧ high = 1)) : gop L 4 (fun v => if v z = 0 then gsel low l v else gsel high h v) (gjoin L z low l high h) := by
  unfold gjoin
  split
  · split
    · refine ⟨ho, List.prefix_rfl, by simp, h0, h1, fun v hv => ?_⟩
      have : high = 1 := by omega
      rcases hv.1 z with e | e <;> simp [e, gsel] <;> omega
    · obtain ⟨a1, a2, a3, a4, a5, a6⟩ := ginv_op ho h0 h1
      refine ⟨a1, a2, by omega, a4, a5, fun v hv => ?_⟩
      rw [a6 v hv]
      rcases hv.1 z with e | e <;> simp [e, gsel] <;> omega
  · split
    · have hh2 : high = 2 ∧ 0 ≤ h ∧ h < L.length := by omega
      obtain ⟨a1, a2, a3, a4, a5, a6⟩ := ggate_op (one := low) ho h0 h1 hh2.2.1 hh2.2.2 (by omega)
      refine ⟨a1, a2, by omega, a4, a5, fun v hv => ?_⟩
      rw [a6 v hv]
      have : low < 2 := by assumption
      simp [gsel, hh2.1, this]
    · have hl2 : low = 2 ∧ 0 ≤ l ∧ l < L.length := by omega
      split
      · have hh2 : high = 2 ∧ 0 ≤ h ∧ h < L.length := by omega
        obtain ⟨p1, p2, p3, p4, p5, p6⟩ := gnand_op ho h0 h1 hh2.2.1 hh2.2.2
        have pl := p2.length_le
        obtain ⟨q1, q2, q3, q4, q5, q6⟩ := ginv_op (x := z) p1 h0 (by omega)
        have ql := q2.length_le
        obtain ⟨r1, r2, r3, r4, r5, r6⟩ := gnand_op (y := l) q1 q4 q5 hl2.2.1 (by omega)
        have rl := r2.length_le
        obtain ⟨s1, s2, s3, s4, s5, s6⟩ := gnand_op r1 p4 (by omega) r4 r5
        refine ⟨s1, p2.trans (q2.trans (r2.trans s2)), by dsimp only; omega, s4, s5, fun v hv => ?_⟩
        have e1 := s6 v hv
        have e2 := r6 v (hv.pre s2)
        have e3 := q6 v (hv.pre (r2.trans s2))
        have e4 := p6 v (hv.pre (q2.trans (r2.trans s2)))
        dsimp only at e1 e2 e3 e4 ⊢
        rw [e1, e2, e3, e4]
        rcases hv.1 z with e | e <;> simp [e, gsel, hl2.1, hh2.1] <;> omega
      · refine (ginv_op ho h0 h1).bind (m := 2) (g := fun v => if v (ginv L z).2 = 0 then high else v l) (fun a b c d => ggate_op a b c hl2.2.1 (by omega) (by omega)) (by omega) (fun v hv e1 => ?_)
        rw [e1]
        rcases hv z with e | e <;> simp [e, gsel, hl2.1] <;> omega
/-- bit k of a table -/
def tb (t k : Int) : Int := t / 2 ^ k.toNat % 2
theorem gov1_op {L : Gr} {a t : Int} (ho : gok L) (h0 : 0 ≤ a) (h1 : a < L.length) (ht : t = 1 ∨ t = 2) : gop L 1 (fun v => tb t (v a)) (gov1 L a t) := by
  unfold gov1 gjoin
  rw [if_pos (by omega)]
  rcases ht with rfl | rfl
  · rw [if_neg (by decide)]
    obtain ⟨a1, a2, a3, a4, a5, a6⟩ := ginv_op ho h0 h1
    refine ⟨a1, a2, a3, a4, a5, fun v hv => ?_⟩
    rw [a6 v hv]
    dsimp only
    rcases hv.1 a with e | e <;> rw [e] <;> rfl
  · rw [if_pos (by decide)]
    refine ⟨ho, List.prefix_rfl, by simp, h0, h1, fun v hv => ?_⟩
    dsimp only
    rcases hv.1 a with e | e <;> rw [e] <;> rfl
theorem gfl_02 (t o : Int) : gfl t o = 0 ∨ gfl t o = 1 ∨ gfl t o = 2 := by
  unfold gfl
  split
  · exact Or.inl rfl
  · split
    · exact Or.inr (Or.inl rfl)
    · exact Or.inr (Or.inr rfl)
theorem gfl_0 {t o : Int} : gfl t o = 0 ↔ t = 0 := by
  unfold gfl
  split
  · simp [*]
  · split <;> simp <;> assumption
theorem gfl_1 {t o : Int} (ho : o ≠ 0) : gfl t o = 1 ↔ t = o := by
  unfold gfl
  split
  · rename_i h
    simp [h]
    omega
  · split <;> simp [*]
theorem gfl_2 {t o : Int} : gfl t o = 2 ↔ t ≠ 0 ∧ t ≠ o := by
  unfold gfl
  split
  · simp [*]
  · split <;> simp [*]
/-- one half, as both classes make it -/
theorem ghalf_op {L : Gr} {n : Nat} {t o : Int} {f : (Int → Int) → Int} {r : Gr × Int} (ho : gok L) (h : t ≠ 0 → t ≠ o → gop L n f r) : let p := if gfl t o = 2 then r else (L, 0); gok p.1 ∧ L <+: p.1 ∧ p.1.length ≤ L.length + n ∧ (gfl t o = 2 → 0 ≤ p.2 ∧ p.2 < p.1.length) ∧ (∀ v, gval p.1 v → gfl t o = 2 → v p.2 = f v) := by
  dsimp only
  split
  · rename_i h2
    obtain ⟨a1, a2, a3, a4, a5, a6⟩ := h (gfl_2.mp h2).1 (gfl_2.mp h2).2
    exact ⟨a1, a2, a3, fun _ => ⟨a4, a5⟩, fun v hv _ => a6 v hv⟩
  · exact ⟨ho, List.prefix_rfl, by simp, fun h => absurd h (by assumption), fun _ _ h => absurd h (by assumption)⟩
theorem gtwo_op {L : Gr} {n : Nat} {z lo hi o : Int} {f g : (Int → Int) → Int} {r : Gr × Int} {s : Gr → Gr × Int} (ho : gok L) (h0 : 0 ≤ z) (h1 : z < L.length) (o0 : o ≠ 0) (hne : lo ≠ hi) (hl : lo ≠ 0 → lo ≠ o → gop L n f r) (hh : ∀ L', L <+: L' → gok L' → hi ≠ 0 → hi ≠ o → gop L' n g (s L')) : let l := if gfl lo o = 2 then r else (L, 0); let h := if gfl hi o = 2 then s l.1 else (l.1, 0); gop L (2 * n + 4) (fun v => if v z = 0 then (if lo = 0 then 0 else if lo = o then 1 else f v) else (if hi = 0 then 0 else if hi = o then 1 else g v)) (gjoin h.1 z (gfl lo o) l.2 (gfl hi o) h.2) := by
  have a := ghalf_op (o := o) ho hl
  dsimp only at a ⊢
  generalize (if gfl lo o = 2 then r else (L, 0)) = l at a ⊢
  obtain ⟨a1, a2, a3, a4, a5⟩ := a
  have b := ghalf_op (o := o) a1 (hh l.1 a2 a1)
  dsimp only at b
  generalize (if gfl hi o = 2 then s l.1 else (l.1, 0)) = h at b ⊢
  obtain ⟨b1, b2, b3, b4, b5⟩ := b
  have l1 := a2.length_le
  have l2 := b2.length_le
  have q1 := gfl_02 lo o
  have q2 := gfl_02 hi o
  have q3 : ¬ (gfl lo o = 0 ∧ gfl hi o = 0) := fun q => hne ((gfl_0.mp q.1).trans (gfl_0.mp q.2).symm)
  have q4 : ¬ (gfl lo o = 1 ∧ gfl hi o = 1) := fun q => hne (((gfl_1 o0).mp q.1).trans ((gfl_1 o0).mp q.2).symm)
  obtain ⟨c1, c2, c3, c4, c5, c6⟩ := gjoin_op (z := z) (low := gfl lo o) (l := l.2) (high := gfl hi o) (h := h.2) b1 h0 (by omega) (by rcases q1 with e | e | e; exact Or.inl e; exact Or.inr (Or.inl e); exact Or.inr (Or.inr ⟨e, (a4 e).1, by have := (a4 e).2; omega⟩)) (by rcases q2 with e | e | e; exact Or.inl e; exact Or.inr (Or.inl e); exact Or.inr (Or.inr ⟨e, b4 e⟩)) ⟨q3, q4⟩
  refine ⟨c1, a2.trans (b2.trans c2), by omega, c4, c5, fun v hv => ?_⟩
  rw [c6 v hv]
  have d1 := a5 v (hv.pre (b2.trans c2))
  have d2 := b5 v (hv.pre c2)
  dsimp only
  have e1 : gsel (gfl lo o) l.2 v = if lo = 0 then 0 else if lo = o then 1 else f v := by
    by_cases z0 : lo = 0
    · rw [if_pos z0, gfl_0.mpr z0]; rfl
    · rw [if_neg z0]
      by_cases z1 : lo = o
      · rw [if_pos z1, (gfl_1 o0).mpr z1]; rfl
      · rw [if_neg z1, ← d1 (gfl_2.mpr ⟨z0, z1⟩), gfl_2.mpr ⟨z0, z1⟩]; rfl
  have e2 : gsel (gfl hi o) h.2 v = if hi = 0 then 0 else if hi = o then 1 else g v := by
    by_cases z0 : hi = 0
    · rw [if_pos z0, gfl_0.mpr z0]; rfl
    · rw [if_neg z0]
      by_cases z1 : hi = o
      · rw [if_pos z1, (gfl_1 o0).mpr z1]; rfl
      · rw [if_neg z1, ← d2 (gfl_2.mpr ⟨z0, z1⟩), gfl_2.mpr ⟨z0, z1⟩]; rfl
  rw [e1, e2]
theorem tb4n : ∀ n : Nat, n < 16 → ∀ k : Nat, k < 2 → tb n k = tb ((n : Int) % 4) k ∧ tb n ((k : Int) + 2) = tb ((n : Int) / 4) k := by decide +kernel
theorem tb4 {t k : Int} (h0 : 0 ≤ t) (h1 : t < 16) (k0 : 0 ≤ k) (k1 : k < 2) : tb t k = tb (t % 4) k ∧ tb t (k + 2) = tb (t / 4) k := by
  obtain ⟨n, rfl⟩ := Int.eq_ofNat_of_zero_le h0
  obtain ⟨m, rfl⟩ := Int.eq_ofNat_of_zero_le k0
  exact tb4n n (by omega) m (by omega)
theorem gov2_op {L : Gr} {a b t : Int} (ho : gok L) (h0 : 0 ≤ a) (h1 : a < L.length) (b0 : 0 ≤ b) (b1 : b < L.length) (t0 : 0 < t) (t1 : t < 15) : gop L 6 (fun v => tb t (v a + 2 * v b)) (gov2 L a b t) := by
  unfold gov2
  split
  · obtain ⟨a1, a2, a3, a4, a5, a6⟩ := gov1_op (t := t % 4) ho h0 h1 (by omega)
    refine ⟨a1, a2, by omega, a4, a5, fun v hv => ?_⟩
    rw [a6 v hv]
    dsimp only
    have heq : t % 4 = t / 4 := by assumption
    have ha := hv.1 a
    have hk := tb4 (k := v a) (show 0 ≤ t by omega) (by omega) (by omega) (by omega)
    rcases hv.1 b with e3 | e3 <;> rw [e3]
    · rw [show v a + 2 * 0 = v a by omega, hk.1]
    · rw [show v a + 2 * 1 = v a + 2 by omega, hk.2, heq]
  · have hne : t % 4 ≠ t / 4 := by assumption
    obtain ⟨a1, a2, a3, a4, a5, a6⟩ := gtwo_op (n := 1) (o := 3) (s := fun L' => gov1 L' a (t / 4)) ho b0 b1 (by decide) hne (fun q1 q2 => gov1_op (t := t % 4) ho h0 h1 (by omega)) (fun L' hp ho' q1 q2 => gov1_op (t := t / 4) ho' h0 (by have := hp.length_le; omega) (by omega))
    refine ⟨a1, a2, by omega, a4, a5, fun v hv => ?_⟩
    rw [a6 v hv]
    dsimp only
    have ha := hv.1 a
    have hk := tb4 (k := v a) (show 0 ≤ t by omega) (by omega) (by omega) (by omega)
    have z0 : tb 0 (v a) = 0 := by simp [tb]
    have z3 : tb 3 (v a) = 1 := by rcases ha with e | e <;> rw [e] <;> decide
    rcases hv.1 b with e3 | e3 <;> rw [e3]
    · rw [if_pos rfl, show v a + 2 * 0 = v a by omega, hk.1]
      split
      · rename_i q
        rw [q, z0]
      · split
        · rename_i q
          rw [q, z3]
        · rfl
    · rw [if_neg (by decide), show v a + 2 * 1 = v a + 2 by omega, hk.2]
      split
      · rename_i q
        rw [q, z0]
      · split
        · rename_i q
          rw [q, z3]
        · rfl
theorem tb16n : ∀ n : Nat, n < 256 → ∀ k : Nat, k < 4 → tb n k = tb ((n : Int) % 16) k ∧ tb n ((k : Int) + 4) = tb ((n : Int) / 16) k := by decide +kernel
theorem tb16 {t k : Int} (h0 : 0 ≤ t) (h1 : t < 256) (k0 : 0 ≤ k) (k1 : k < 4) : tb t k = tb (t % 16) k ∧ tb t (k + 4) = tb (t / 16) k := by
  obtain ⟨n, rfl⟩ := Int.eq_ofNat_of_zero_le h0
  obtain ⟨m, rfl⟩ := Int.eq_ofNat_of_zero_le k0
  exact tb16n n (by omega) m (by omega)
theorem gov3_op {L : Gr} {a b c t : Int} (ho : gok L) (h0 : 0 ≤ a) (h1 : a < L.length) (b0 : 0 ≤ b) (b1 : b < L.length) (c0 : 0 ≤ c) (c1 : c < L.length) (t0 : 0 < t) (t1 : t < 255) : gop L 16 (fun v => tb t (v a + 2 * v b + 4 * v c)) (gov3 L a b c t) := by
  unfold gov3
  split
  · obtain ⟨a1, a2, a3, a4, a5, a6⟩ := gov2_op (t := t % 16) ho h0 h1 b0 b1 (by omega) (by omega)
    refine ⟨a1, a2, by omega, a4, a5, fun v hv => ?_⟩
    rw [a6 v hv]
    dsimp only
    have heq : t % 16 = t / 16 := by assumption
    have ha := hv.1 a
    have hb := hv.1 b
    have hk := tb16 (k := v a + 2 * v b) (show 0 ≤ t by omega) (by omega) (by omega) (by omega)
    rcases hv.1 c with e3 | e3 <;> rw [e3]
    · rw [show v a + 2 * v b + 4 * 0 = v a + 2 * v b by omega, hk.1]
    · rw [show v a + 2 * v b + 4 * 1 = v a + 2 * v b + 4 by omega, hk.2, heq]
  · have hne : t % 16 ≠ t / 16 := by assumption
    obtain ⟨a1, a2, a3, a4, a5, a6⟩ := gtwo_op (n := 6) (o := 15) (s := fun L' => gov2 L' a b (t / 16)) ho c0 c1 (by decide) hne (fun q1 q2 => gov2_op (t := t % 16) ho h0 h1 b0 b1 (by omega) (by omega)) (fun L' hp ho' q1 q2 => gov2_op (t := t / 16) ho' h0 (by have := hp.length_le; omega) b0 (by have := hp.length_le; omega) (by omega) (by omega))
    refine ⟨a1, a2, by omega, a4, a5, fun v hv => ?_⟩
    rw [a6 v hv]
    dsimp only
    have ha := hv.1 a
    have hb := hv.1 b
    have hk := tb16 (k := v a + 2 * v b) (show 0 ≤ t by omega) (by omega) (by omega) (by omega)
    have z0 : tb 0 (v a + 2 * v b) = 0 := by simp [tb]
    have z15 : tb 15 (v a + 2 * v b) = 1 := by rcases ha with e | e <;> rcases hb with e2 | e2 <;> rw [e, e2] <;> decide
    rcases hv.1 c with e3 | e3 <;> rw [e3]
    · rw [if_pos rfl, show v a + 2 * v b + 4 * 0 = v a + 2 * v b by omega, hk.1]
      split
      · rename_i q
        rw [q, z0]
      · split
        · rename_i q
          rw [q, z15]
        · rfl
    · rw [if_neg (by decide), show v a + 2 * v b + 4 * 1 = v a + 2 * v b + 4 by omega, hk.2]
      split
      · rename_i q
        rw [q, z0]
      · split
        · rename_i q
          rw [q, z15]
        · rfl
