/-! patterns; the base invariant (printed by gen/base.py) -/
/-- patterns: var 0 a pin, neg an inverter, add a NAND -/
abbrev Pat : Type := Int.Internal.Linear.Expr
def pok : Pat → Prop
  | .var i => i = 0
  | .neg p => pok p
  | .add p q => pok p ∧ pok q
  | _ => False
def ppins : Pat → Nat
  | .var _ => 1
  | .neg p => ppins p
  | .add p q => ppins p + ppins q
  | _ => 0
def pdig : Pat → List Int
  | .var _ => [1]
  | .neg p => 2 :: pdig p
  | .add p q => 3 :: (pdig p ++ pdig q)
  | _ => []
def dval : List Int → Int
  | [] => 0
  | d :: l => d + 4 * dval l
/-- the pattern that lies at place j of CellMapper's patterns, its pins numbered from b on -/
def prep (σ : zS) : Pat → Int → Int → Prop
  | .var _, j, b => 0 ≤ j ∧ j < σ 72 0 ∧ σ 30 j = 0 ∧ σ 31 j = b
  | .neg p, j, b => 0 ≤ j ∧ j < σ 72 0 ∧ σ 30 j = 1 ∧ prep σ p (σ 31 j) b
  | .add p q, j, b => 0 ≤ j ∧ j < σ 72 0 ∧ σ 30 j = 2 ∧ prep σ p (σ 31 j) b ∧ prep σ q (σ 32 j) (b + ppins p)
  | _, _, _ => False
theorem prep_ext {σ τ : zS} (h72 : σ 72 0 ≤ τ 72 0) (h : ∀ i : Int, 0 ≤ i → i < σ 72 0 → τ 30 i = σ 30 i ∧ τ 31 i = σ 31 i ∧ τ 32 i = σ 32 i) : ∀ (P : Pat) (j b : Int), prep σ P j b → prep τ P j b
  | .var _, j, b, ⟨a1, a2, a3, a4⟩ => by
    obtain ⟨e1, e2, e3⟩ := h j a1 a2
    exact ⟨a1, by omega, by rw [e1]; exact a3, by rw [e2]; exact a4⟩
  | .neg p, j, b, ⟨a1, a2, a3, a4⟩ => by
    obtain ⟨e1, e2, e3⟩ := h j a1 a2
    exact ⟨a1, by omega, by rw [e1]; exact a3, by rw [e2]; exact prep_ext h72 h p _ _ a4⟩
  | .add p q, j, b, ⟨a1, a2, a3, a4, a5⟩ => by
    obtain ⟨e1, e2, e3⟩ := h j a1 a2
    exact ⟨a1, by omega, by rw [e1]; exact a3, by rw [e2]; exact prep_ext h72 h p _ _ a4, by rw [e3]; exact prep_ext h72 h q _ _ a5⟩
  | .num _, _, _, h => h.elim
  | .sub _ _, _, _, h => h.elim
  | .mulL _ _, _, _, h => h.elim
  | .mulR _ _, _, _, h => h.elim
/-- the arguments' index into a function's table -/
def fidx (σ : zS) (v : Int → Int) (j : Int) : Int := v (σ 42 (σ 106 j)) + (if 0 ≤ σ 107 j then 2 * v (σ 42 (σ 107 j)) else 0) + (if 0 ≤ σ 108 j then 4 * v (σ 42 (σ 108 j)) else 0)
def BW (σ : zS) (L : Gr) (pt : Int → Pat) : Prop :=
  (xG σ L) ∧
  (mG σ L) ∧
  (L.length ≤ 48) ∧
  (0 ≤ σ 40 1) ∧
  (σ 40 1 ≤ 40) ∧
  (σ 100 0 = σ 40 1) ∧
  (∀ j : Int, 0 ≤ j → j < σ 40 1 → 0 ≤ σ 42 j ∧ σ 42 j < L.length ∧ σ 102 j = σ 42 j ∧ 0 ≤ σ 101 j ∧ σ 101 j ≤ 2) ∧
  (∀ j : Int, 0 ≤ j → j < σ 40 1 → σ 101 j ≤ 1 → σ 117 (σ 42 j) = j ∧ σ 1 (σ 42 j) = σ 101 j) ∧
  (∀ i : Int, 0 ≤ i → i < L.length → σ 1 i ≤ 1 → 0 ≤ σ 117 i ∧ σ 117 i < σ 40 1 ∧ σ 42 (σ 117 i) = i ∧ σ 101 (σ 117 i) = σ 1 i) ∧
  (0 ≤ σ 40 2) ∧
  (σ 40 2 ≤ 6) ∧
  (σ 111 0 = σ 40 2) ∧
  (∀ k : Int, 0 ≤ k → k < σ 40 2 → 0 ≤ σ 43 k ∧ σ 43 k < L.length ∧ σ 1 (σ 43 k) = 0 ∧ σ 4 (σ 43 k) = k) ∧
  (∀ i : Int, 0 ≤ i → i < L.length → σ 1 i = 0 → 0 ≤ σ 4 i ∧ σ 4 i < σ 40 2 ∧ σ 43 (σ 4 i) = i ∧ σ 4 i = cnt (fun j => σ 101 j = 0) (σ 117 i).toNat) ∧
  (cnt (fun j => σ 101 j = 0) (σ 40 1).toNat = σ 40 2) ∧
  (0 ≤ σ 40 3) ∧
  (σ 40 3 ≤ 6) ∧
  (σ 112 0 = σ 40 3) ∧
  (∀ k : Int, 0 ≤ k → k < σ 40 3 → 0 ≤ σ 44 k ∧ σ 44 k < L.length ∧ σ 1 (σ 44 k) = 1) ∧
  (∀ i : Int, 0 ≤ i → i < L.length → σ 1 i = 1 → (∃ k : Int, 0 ≤ k ∧ k < σ 40 3 ∧ σ 44 k = i) ∧ σ 8 i = σ 117 i ∧ σ 103 (σ 117 i) = σ 4 i ∧ (σ 4 i = 0 ∨ σ 4 i = 1) ∧ (σ 7 i = 0 ∨ σ 7 i = 1) ∧ σ 104 (σ 117 i) = σ 7 i ∧ ((σ 5 i = -1 ∧ σ 105 (σ 117 i) = -1) ∨ (0 ≤ σ 105 (σ 117 i) ∧ σ 105 (σ 117 i) < σ 40 1 ∧ σ 5 i = σ 42 (σ 105 (σ 117 i))))) ∧
  (0 ≤ σ 40 4) ∧
  (σ 40 4 ≤ 4) ∧
  (σ 118 0 = σ 40 4) ∧
  (∀ k : Int, 0 ≤ k → k < σ 40 4 → 0 ≤ σ 119 k ∧ σ 119 k < σ 40 1 ∧ σ 45 k = σ 42 (σ 119 k)) ∧
  (0 ≤ σ 40 5) ∧
  (σ 40 5 ≤ 8) ∧
  (σ 120 0 = σ 40 5) ∧
  (σ 71 0 = σ 40 5) ∧
  (0 ≤ σ 72 0) ∧
  (∀ c : Int, 0 ≤ c → c < σ 40 5 → σ 46 c = c ∧ σ 20 c = c ∧ σ 121 c = σ 21 c ∧ σ 122 c = σ 22 c ∧ σ 123 c = σ 23 c ∧ 1 ≤ σ 22 c ∧ σ 22 c ≤ 1000 ∧ 0 ≤ σ 23 c ∧ σ 23 c ≤ 1000) ∧
  (∀ c : Int, 0 ≤ c → c < σ 40 5 → pok (pt c) ∧ (pt c ≠ .var 0) ∧ (pdig (pt c)).length ≤ 7 ∧ σ 21 c = dval (pdig (pt c)) ∧ σ 24 c = ppins (pt c) ∧ prep σ (pt c) (σ 25 c) 0) ∧
  (∀ i : Int, 0 ≤ i → i < L.length → σ 6 i = 0 ∨ σ 6 i = 1) ∧
  (∀ j : Int, 0 ≤ j → j < σ 40 1 → σ 101 j = 2 → 0 ≤ σ 106 j ∧ σ 106 j < j ∧ (σ 107 j = -1 ∨ (0 ≤ σ 107 j ∧ σ 107 j < j)) ∧ (σ 108 j = -1 ∨ (0 ≤ σ 108 j ∧ σ 108 j < j)) ∧ 0 < σ 109 j ∧ σ 109 j < 255 ∧ ∀ v, gval L v → v (σ 42 j) = tb (σ 109 j) (fidx σ v j)) ∧
  (σ 56 0 = 0 ∨ σ 56 0 = 1) ∧
  (σ 124 0 = σ 56 0)
theorem BW.xg {σ : zS} {L : Gr} {pt : Int → Pat} (h : BW σ L pt) : xG σ L := h.1
theorem BW.mg {σ : zS} {L : Gr} {pt : Int → Pat} (h : BW σ L pt) : mG σ L := h.2.1
theorem BW.len {σ : zS} {L : Gr} {pt : Int → Pat} (h : BW σ L pt) : L.length ≤ 48 := h.2.2.1
theorem BW.n0 {σ : zS} {L : Gr} {pt : Int → Pat} (h : BW σ L pt) : 0 ≤ σ 40 1 := h.2.2.2.1
theorem BW.n1 {σ : zS} {L : Gr} {pt : Int → Pat} (h : BW σ L pt) : σ 40 1 ≤ 40 := h.2.2.2.2.1
theorem BW.n2 {σ : zS} {L : Gr} {pt : Int → Pat} (h : BW σ L pt) : σ 100 0 = σ 40 1 := h.2.2.2.2.2.1
theorem BW.net {σ : zS} {L : Gr} {pt : Int → Pat} (h : BW σ L pt) : ∀ j : Int, 0 ≤ j → j < σ 40 1 → 0 ≤ σ 42 j ∧ σ 42 j < L.length ∧ σ 102 j = σ 42 j ∧ 0 ≤ σ 101 j ∧ σ 101 j ≤ 2 := h.2.2.2.2.2.2.1
theorem BW.leaf {σ : zS} {L : Gr} {pt : Int → Pat} (h : BW σ L pt) : ∀ j : Int, 0 ≤ j → j < σ 40 1 → σ 101 j ≤ 1 → σ 117 (σ 42 j) = j ∧ σ 1 (σ 42 j) = σ 101 j := h.2.2.2.2.2.2.2.1
theorem BW.lnet {σ : zS} {L : Gr} {pt : Int → Pat} (h : BW σ L pt) : ∀ i : Int, 0 ≤ i → i < L.length → σ 1 i ≤ 1 → 0 ≤ σ 117 i ∧ σ 117 i < σ 40 1 ∧ σ 42 (σ 117 i) = i ∧ σ 101 (σ 117 i) = σ 1 i := h.2.2.2.2.2.2.2.2.1
theorem BW.i0 {σ : zS} {L : Gr} {pt : Int → Pat} (h : BW σ L pt) : 0 ≤ σ 40 2 := h.2.2.2.2.2.2.2.2.2.1
theorem BW.i1 {σ : zS} {L : Gr} {pt : Int → Pat} (h : BW σ L pt) : σ 40 2 ≤ 6 := h.2.2.2.2.2.2.2.2.2.2.1
theorem BW.i2 {σ : zS} {L : Gr} {pt : Int → Pat} (h : BW σ L pt) : σ 111 0 = σ 40 2 := h.2.2.2.2.2.2.2.2.2.2.2.1
theorem BW.inp {σ : zS} {L : Gr} {pt : Int → Pat} (h : BW σ L pt) : ∀ k : Int, 0 ≤ k → k < σ 40 2 → 0 ≤ σ 43 k ∧ σ 43 k < L.length ∧ σ 1 (σ 43 k) = 0 ∧ σ 4 (σ 43 k) = k := h.2.2.2.2.2.2.2.2.2.2.2.2.1
theorem BW.ino {σ : zS} {L : Gr} {pt : Int → Pat} (h : BW σ L pt) : ∀ i : Int, 0 ≤ i → i < L.length → σ 1 i = 0 → 0 ≤ σ 4 i ∧ σ 4 i < σ 40 2 ∧ σ 43 (σ 4 i) = i ∧ σ 4 i = cnt (fun j => σ 101 j = 0) (σ 117 i).toNat := h.2.2.2.2.2.2.2.2.2.2.2.2.2.1
theorem BW.icn {σ : zS} {L : Gr} {pt : Int → Pat} (h : BW σ L pt) : cnt (fun j => σ 101 j = 0) (σ 40 1).toNat = σ 40 2 := h.2.2.2.2.2.2.2.2.2.2.2.2.2.2.1
theorem BW.l0 {σ : zS} {L : Gr} {pt : Int → Pat} (h : BW σ L pt) : 0 ≤ σ 40 3 := h.2.2.2.2.2.2.2.2.2.2.2.2.2.2.2.1
theorem BW.l1 {σ : zS} {L : Gr} {pt : Int → Pat} (h : BW σ L pt) : σ 40 3 ≤ 6 := h.2.2.2.2.2.2.2.2.2.2.2.2.2.2.2.2.1
theorem BW.l2 {σ : zS} {L : Gr} {pt : Int → Pat} (h : BW σ L pt) : σ 112 0 = σ 40 3 := h.2.2.2.2.2.2.2.2.2.2.2.2.2.2.2.2.2.1
theorem BW.lat {σ : zS} {L : Gr} {pt : Int → Pat} (h : BW σ L pt) : ∀ k : Int, 0 ≤ k → k < σ 40 3 → 0 ≤ σ 44 k ∧ σ 44 k < L.length ∧ σ 1 (σ 44 k) = 1 := h.2.2.2.2.2.2.2.2.2.2.2.2.2.2.2.2.2.2.1
theorem BW.lan {σ : zS} {L : Gr} {pt : Int → Pat} (h : BW σ L pt) : ∀ i : Int, 0 ≤ i → i < L.length → σ 1 i = 1 → (∃ k : Int, 0 ≤ k ∧ k < σ 40 3 ∧ σ 44 k = i) ∧ σ 8 i = σ 117 i ∧ σ 103 (σ 117 i) = σ 4 i ∧ (σ 4 i = 0 ∨ σ 4 i = 1) ∧ (σ 7 i = 0 ∨ σ 7 i = 1) ∧ σ 104 (σ 117 i) = σ 7 i ∧ ((σ 5 i = -1 ∧ σ 105 (σ 117 i) = -1) ∨ (0 ≤ σ 105 (σ 117 i) ∧ σ 105 (σ 117 i) < σ 40 1 ∧ σ 5 i = σ 42 (σ 105 (σ 117 i)))) := h.2.2.2.2.2.2.2.2.2.2.2.2.2.2.2.2.2.2.2.1
theorem BW.o0 {σ : zS} {L : Gr} {pt : Int → Pat} (h : BW σ L pt) : 0 ≤ σ 40 4 := h.2.2.2.2.2.2.2.2.2.2.2.2.2.2.2.2.2.2.2.2.1
theorem BW.o1 {σ : zS} {L : Gr} {pt : Int → Pat} (h : BW σ L pt) : σ 40 4 ≤ 4 := h.2.2.2.2.2.2.2.2.2.2.2.2.2.2.2.2.2.2.2.2.2.1
theorem BW.o2 {σ : zS} {L : Gr} {pt : Int → Pat} (h : BW σ L pt) : σ 118 0 = σ 40 4 := h.2.2.2.2.2.2.2.2.2.2.2.2.2.2.2.2.2.2.2.2.2.2.1
theorem BW.out {σ : zS} {L : Gr} {pt : Int → Pat} (h : BW σ L pt) : ∀ k : Int, 0 ≤ k → k < σ 40 4 → 0 ≤ σ 119 k ∧ σ 119 k < σ 40 1 ∧ σ 45 k = σ 42 (σ 119 k) := h.2.2.2.2.2.2.2.2.2.2.2.2.2.2.2.2.2.2.2.2.2.2.2.1
theorem BW.c0 {σ : zS} {L : Gr} {pt : Int → Pat} (h : BW σ L pt) : 0 ≤ σ 40 5 := h.2.2.2.2.2.2.2.2.2.2.2.2.2.2.2.2.2.2.2.2.2.2.2.2.1
theorem BW.c1 {σ : zS} {L : Gr} {pt : Int → Pat} (h : BW σ L pt) : σ 40 5 ≤ 8 := h.2.2.2.2.2.2.2.2.2.2.2.2.2.2.2.2.2.2.2.2.2.2.2.2.2.1
theorem BW.c2 {σ : zS} {L : Gr} {pt : Int → Pat} (h : BW σ L pt) : σ 120 0 = σ 40 5 := h.2.2.2.2.2.2.2.2.2.2.2.2.2.2.2.2.2.2.2.2.2.2.2.2.2.2.1
theorem BW.c3 {σ : zS} {L : Gr} {pt : Int → Pat} (h : BW σ L pt) : σ 71 0 = σ 40 5 := h.2.2.2.2.2.2.2.2.2.2.2.2.2.2.2.2.2.2.2.2.2.2.2.2.2.2.2.1
theorem BW.c4 {σ : zS} {L : Gr} {pt : Int → Pat} (h : BW σ L pt) : 0 ≤ σ 72 0 := h.2.2.2.2.2.2.2.2.2.2.2.2.2.2.2.2.2.2.2.2.2.2.2.2.2.2.2.2.1
theorem BW.cel {σ : zS} {L : Gr} {pt : Int → Pat} (h : BW σ L pt) : ∀ c : Int, 0 ≤ c → c < σ 40 5 → σ 46 c = c ∧ σ 20 c = c ∧ σ 121 c = σ 21 c ∧ σ 122 c = σ 22 c ∧ σ 123 c = σ 23 c ∧ 1 ≤ σ 22 c ∧ σ 22 c ≤ 1000 ∧ 0 ≤ σ 23 c ∧ σ 23 c ≤ 1000 := h.2.2.2.2.2.2.2.2.2.2.2.2.2.2.2.2.2.2.2.2.2.2.2.2.2.2.2.2.2.1
theorem BW.cpt {σ : zS} {L : Gr} {pt : Int → Pat} (h : BW σ L pt) : ∀ c : Int, 0 ≤ c → c < σ 40 5 → pok (pt c) ∧ (pt c ≠ .var 0) ∧ (pdig (pt c)).length ≤ 7 ∧ σ 21 c = dval (pdig (pt c)) ∧ σ 24 c = ppins (pt c) ∧ prep σ (pt c) (σ 25 c) 0 := h.2.2.2.2.2.2.2.2.2.2.2.2.2.2.2.2.2.2.2.2.2.2.2.2.2.2.2.2.2.2.1
theorem BW.val {σ : zS} {L : Gr} {pt : Int → Pat} (h : BW σ L pt) : ∀ i : Int, 0 ≤ i → i < L.length → σ 6 i = 0 ∨ σ 6 i = 1 := h.2.2.2.2.2.2.2.2.2.2.2.2.2.2.2.2.2.2.2.2.2.2.2.2.2.2.2.2.2.2.2.1
theorem BW.fnc {σ : zS} {L : Gr} {pt : Int → Pat} (h : BW σ L pt) : ∀ j : Int, 0 ≤ j → j < σ 40 1 → σ 101 j = 2 → 0 ≤ σ 106 j ∧ σ 106 j < j ∧ (σ 107 j = -1 ∨ (0 ≤ σ 107 j ∧ σ 107 j < j)) ∧ (σ 108 j = -1 ∨ (0 ≤ σ 108 j ∧ σ 108 j < j)) ∧ 0 < σ 109 j ∧ σ 109 j < 255 ∧ ∀ v, gval L v → v (σ 42 j) = tb (σ 109 j) (fidx σ v j) := h.2.2.2.2.2.2.2.2.2.2.2.2.2.2.2.2.2.2.2.2.2.2.2.2.2.2.2.2.2.2.2.2.1
theorem BW.mp {σ : zS} {L : Gr} {pt : Int → Pat} (h : BW σ L pt) : σ 56 0 = 0 ∨ σ 56 0 = 1 := h.2.2.2.2.2.2.2.2.2.2.2.2.2.2.2.2.2.2.2.2.2.2.2.2.2.2.2.2.2.2.2.2.2.1
theorem BW.mq {σ : zS} {L : Gr} {pt : Int → Pat} (h : BW σ L pt) : σ 124 0 = σ 56 0 := h.2.2.2.2.2.2.2.2.2.2.2.2.2.2.2.2.2.2.2.2.2.2.2.2.2.2.2.2.2.2.2.2.2.2
theorem BW.mk {σ : zS} {L : Gr} {pt : Int → Pat} (xg : xG σ L) (mg : mG σ L) (len : L.length ≤ 48) (n0 : 0 ≤ σ 40 1) (n1 : σ 40 1 ≤ 40) (n2 : σ 100 0 = σ 40 1) (net : ∀ j : Int, 0 ≤ j → j < σ 40 1 → 0 ≤ σ 42 j ∧ σ 42 j < L.length ∧ σ 102 j = σ 42 j ∧ 0 ≤ σ 101 j ∧ σ 101 j ≤ 2) (leaf : ∀ j : Int, 0 ≤ j → j < σ 40 1 → σ 101 j ≤ 1 → σ 117 (σ 42 j) = j ∧ σ 1 (σ 42 j) = σ 101 j) (lnet : ∀ i : Int, 0 ≤ i → i < L.length → σ 1 i ≤ 1 → 0 ≤ σ 117 i ∧ σ 117 i < σ 40 1 ∧ σ 42 (σ 117 i) = i ∧ σ 101 (σ 117 i) = σ 1 i) (i0 : 0 ≤ σ 40 2) (i1 : σ 40 2 ≤ 6) (i2 : σ 111 0 = σ 40 2) (inp : ∀ k : Int, 0 ≤ k → k < σ 40 2 → 0 ≤ σ 43 k ∧ σ 43 k < L.length ∧ σ 1 (σ 43 k) = 0 ∧ σ 4 (σ 43 k) = k) (ino : ∀ i : Int, 0 ≤ i → i < L.length → σ 1 i = 0 → 0 ≤ σ 4 i ∧ σ 4 i < σ 40 2 ∧ σ 43 (σ 4 i) = i ∧ σ 4 i = cnt (fun j => σ 101 j = 0) (σ 117 i).toNat) (icn : cnt (fun j => σ 101 j = 0) (σ 40 1).toNat = σ 40 2) (l0 : 0 ≤ σ 40 3) (l1 : σ 40 3 ≤ 6) (l2 : σ 112 0 = σ 40 3) (lat : ∀ k : Int, 0 ≤ k → k < σ 40 3 → 0 ≤ σ 44 k ∧ σ 44 k < L.length ∧ σ 1 (σ 44 k) = 1) (lan : ∀ i : Int, 0 ≤ i → i < L.length → σ 1 i = 1 → (∃ k : Int, 0 ≤ k ∧ k < σ 40 3 ∧ σ 44 k = i) ∧ σ 8 i = σ 117 i ∧ σ 103 (σ 117 i) = σ 4 i ∧ (σ 4 i = 0 ∨ σ 4 i = 1) ∧ (σ 7 i = 0 ∨ σ 7 i = 1) ∧ σ 104 (σ 117 i) = σ 7 i ∧ ((σ 5 i = -1 ∧ σ 105 (σ 117 i) = -1) ∨ (0 ≤ σ 105 (σ 117 i) ∧ σ 105 (σ 117 i) < σ 40 1 ∧ σ 5 i = σ 42 (σ 105 (σ 117 i))))) (o0 : 0 ≤ σ 40 4) (o1 : σ 40 4 ≤ 4) (o2 : σ 118 0 = σ 40 4) (out : ∀ k : Int, 0 ≤ k → k < σ 40 4 → 0 ≤ σ 119 k ∧ σ 119 k < σ 40 1 ∧ σ 45 k = σ 42 (σ 119 k)) (c0 : 0 ≤ σ 40 5) (c1 : σ 40 5 ≤ 8) (c2 : σ 120 0 = σ 40 5) (c3 : σ 71 0 = σ 40 5) (c4 : 0 ≤ σ 72 0) (cel : ∀ c : Int, 0 ≤ c → c < σ 40 5 → σ 46 c = c ∧ σ 20 c = c ∧ σ 121 c = σ 21 c ∧ σ 122 c = σ 22 c ∧ σ 123 c = σ 23 c ∧ 1 ≤ σ 22 c ∧ σ 22 c ≤ 1000 ∧ 0 ≤ σ 23 c ∧ σ 23 c ≤ 1000) (cpt : ∀ c : Int, 0 ≤ c → c < σ 40 5 → pok (pt c) ∧ (pt c ≠ .var 0) ∧ (pdig (pt c)).length ≤ 7 ∧ σ 21 c = dval (pdig (pt c)) ∧ σ 24 c = ppins (pt c) ∧ prep σ (pt c) (σ 25 c) 0) (val : ∀ i : Int, 0 ≤ i → i < L.length → σ 6 i = 0 ∨ σ 6 i = 1) (fnc : ∀ j : Int, 0 ≤ j → j < σ 40 1 → σ 101 j = 2 → 0 ≤ σ 106 j ∧ σ 106 j < j ∧ (σ 107 j = -1 ∨ (0 ≤ σ 107 j ∧ σ 107 j < j)) ∧ (σ 108 j = -1 ∨ (0 ≤ σ 108 j ∧ σ 108 j < j)) ∧ 0 < σ 109 j ∧ σ 109 j < 255 ∧ ∀ v, gval L v → v (σ 42 j) = tb (σ 109 j) (fidx σ v j)) (mp : σ 56 0 = 0 ∨ σ 56 0 = 1) (mq : σ 124 0 = σ 56 0) : BW σ L pt := ⟨xg, mg, len, n0, n1, n2, net, leaf, lnet, i0, i1, i2, inp, ino, icn, l0, l1, l2, lat, lan, o0, o1, o2, out, c0, c1, c2, c3, c4, cel, cpt, val, fnc, mp, mq⟩
theorem BW.e70 {σ : zS} {L : Gr} {pt : Int → Pat} (h : BW σ L pt) : σ 70 0 = L.length := h.xg.2.1
theorem BW.e40 {σ : zS} {L : Gr} {pt : Int → Pat} (h : BW σ L pt) : σ 40 0 = L.length := h.xg.1
theorem BW.e113 {σ : zS} {L : Gr} {pt : Int → Pat} (h : BW σ L pt) : σ 113 0 = L.length := h.mg.1
theorem BW.wf {σ : zS} {L : Gr} {pt : Int → Pat} (h : BW σ L pt) : zWf σ := h.xg.2.2.2.1
theorem BW.net7 {σ : zS} {L : Gr} {pt : Int → Pat} (h : BW σ L pt) : ∀ j : Int, 0 ≤ j → j < σ 40 1 → 0 ≤ σ 42 j ∧ σ 42 j < σ 70 0 := fun j j0 j1 => by
  rw [h.e70]
  exact ⟨(h.net j j0 j1).1, (h.net j j0 j1).2.1⟩
theorem BW.lat7 {σ : zS} {L : Gr} {pt : Int → Pat} (h : BW σ L pt) : ∀ k : Int, 0 ≤ k → k < σ 40 3 → 0 ≤ σ 44 k ∧ σ 44 k < σ 70 0 := fun k k0 k1 => by
  rw [h.e70]
  exact ⟨(h.lat k k0 k1).1, (h.lat k k0 k1).2.1⟩
/-- a node, both sides -/
theorem BW.nd {σ : zS} {L : Gr} {pt : Int → Pat} (h : BW σ L pt) {i : Int} (i0 : 0 ≤ i) (i1 : i < L.length) : σ 114 i = σ 1 i ∧ σ 115 i = σ 2 i ∧ σ 116 i = σ 3 i ∧ σ 41 i = i ∧ σ 0 i = i ∧ (((σ 1 i = 0 ∨ σ 1 i = 1) ∧ σ 2 i = -1 ∧ σ 3 i = -1) ∨ (σ 1 i = 2 ∧ 0 ≤ σ 2 i ∧ σ 2 i < σ 3 i ∧ σ 3 i < i) ∨ (σ 1 i = 3 ∧ 0 ≤ σ 2 i ∧ σ 2 i < i ∧ σ 3 i = -1)) := by
  have hx : i.toNat < L.length := by omega
  obtain ⟨⟨k, x, y⟩, hb⟩ : ∃ b, L[i.toNat]? = some b := ⟨_, List.getElem?_eq_getElem hx⟩
  obtain ⟨a1, a2, a3⟩ := h.xg.2.2.2.2.2 _ _ _ _ hb
  obtain ⟨b1, b2, b3⟩ := h.mg.2.2 _ _ _ _ hb
  have c := h.xg.2.2.2.2.1 _ hx
  have d := h.xg.2.2.1 _ _ _ _ hb
  have e : ((i.toNat : Nat) : Int) = i := by omega
  rw [e] at a1 a2 a3 b1 b2 b3 c d
  rw [a1, a2, a3, b1, b2, b3]
  exact ⟨rfl, rfl, rfl, c.1, c.2, d⟩
/-- the answers that change nothing -/
theorem op_nodes {σ : zS} {L : Gr} {pt : Int → Pat} {Q : zS → Prop} (h : BW σ L pt) (hQ : Q σ) : wp_CX_nodes (fun r τ => wp_MM_nodes (fun r' υ => r' = r ∧ Q υ) τ) σ := by
  show σ 113 0 = σ 40 0 ∧ Q σ
  exact ⟨by rw [h.e113, h.e40], hQ⟩
theorem op_nodeOf {σ : zS} {L : Gr} {pt : Int → Pat} {Q : zS → Prop} {a : Int} (h : BW σ L pt) (ha : zc a) (hQ : Q σ) : wp_CX_nodeOf (fun r τ => wp_MM_nodeOf (fun r' υ => r' = r ∧ Q υ) a τ) a σ := by
  have n0 := h.n0
  have n1 := h.n1
  have n2 := h.n2
  refine sx_at ha (by omega) h.net7 ?_
  by_cases hn : 0 ≤ a ∧ a < σ 40 1
  · have hh := h.net a hn.1 hn.2
    have e : atN σ a = σ 42 a := by unfold atN; rw [if_neg (by omega), if_pos hn.2]
    rw [e]
    refine ⟨fun q => absurd q (by omega), fun _ => ⟨hh.1, by rw [h.e70]; exact hh.2.1, ?_⟩⟩
    have e0 := (h.nd hh.1 hh.2.1).2.2.2.2.1
    rw [e0]
    refine sm_isNet ha (by omega) ⟨fun _ => ⟨by omega, fun q => absurd q (by decide), fun _ => ⟨hn.1, by omega, hh.2.2.1, hQ⟩⟩, fun q => absurd hn (by rw [← n2]; exact q)⟩
  · have e : atN σ a = -1 := by
      unfold atN
      split
      · rfl
      · rw [if_neg (by omega)]
    rw [e]
    refine ⟨fun _ => sm_isNet ha (by omega) ⟨fun q => absurd (by rw [← n2]; exact q) hn, fun _ => ⟨by omega, fun _ => ⟨rfl, hQ⟩, fun q => absurd rfl q⟩⟩, fun q => absurd q (by decide)⟩
theorem op_part {σ : zS} {L : Gr} {pt : Int → Pat} {Q : zS → Prop} {a b : Int} (h : BW σ L pt) (ha : zc a) (hb : zc b) (hQ : Q σ) : wp_CX_part (fun r τ => wp_MM_part (fun r' υ => r' = r ∧ Q υ) a b τ) a b σ := by
  have e40 := h.e40
  have e113 := h.e113
  have e70 := h.e70
  have hl := h.len
  by_cases hn : 0 ≤ a ∧ a < L.length
  · obtain ⟨d1, d2, d3, d4, d5, d6⟩ := h.nd hn.1 hn.2
    have M : ∀ r, (b = 0 → r = σ 2 a) → (b = 1 → r = σ 3 a) → (b ≠ 0 → b ≠ 1 → r = -1) → wp_MM_part (fun r' υ => r' = r ∧ Q υ) a b σ := by
      intro r r0 r1 r2
      refine ⟨ha, fun q => absurd q (by omega), fun _ => ⟨by omega, fun q => absurd q (by omega), fun _ => ⟨hb, fun q => ⟨(r2 (by omega) (by omega)).symm, hQ⟩, fun q => ⟨fun q2 => ⟨fun q3 => ⟨hn.1, by omega, by rw [d2]; exact (r0 q3).symm, hQ⟩, fun q3 => ⟨hn.1, by omega, by rw [d3]; exact (r1 (by omega)).symm, hQ⟩⟩, fun q2 => ⟨(r2 (by omega) (by omega)).symm, hQ⟩⟩⟩⟩⟩
    have B : ∀ z, z = -1 ∨ (0 ≤ z ∧ z < a) → ((b = 0 → z = σ 2 a) ∧ (b = 1 → z = σ 3 a) ∧ (b ≠ 0 → b ≠ 1 → z = -1)) → bk_CX_part_53 (fun r τ => wp_MM_part (fun r' υ => r' = r ∧ Q υ) a b τ) z σ := by
      intro z hz ⟨r0, r1, r2⟩
      refine ⟨fun q => ?_, fun q => ⟨by omega, by omega, ?_⟩⟩
      · have : z = -1 := by omega
        subst this
        exact M (-1) r0 r1 r2
      · rw [(h.nd (i := z) (by omega) (by omega)).2.2.2.2.1]
        exact M z r0 r1 r2
    refine ⟨ha, fun q => absurd q (by omega), fun _ => ⟨by omega, fun _ => ⟨hn.1, by omega, by omega, by omega, ?_⟩, fun q => absurd q (by omega)⟩⟩
    rintro _ rfl
    rw [d4]
    refine ⟨hb, fun q => B _ (by omega) ⟨fun _ => rfl, fun q2 => absurd q2 (by omega), fun q2 => absurd q q2⟩, fun q => ⟨fun q2 => B _ (by omega) ⟨fun q3 => absurd q3 q, fun _ => rfl, fun _ q3 => absurd q2 q3⟩, fun q2 => B _ (Or.inl rfl) ⟨fun q3 => absurd q3 q, fun q3 => absurd q3 q2, fun _ _ => rfl⟩⟩⟩
  · have M : wp_MM_part (fun r' υ => r' = -1 ∧ Q υ) a b σ := ⟨ha, fun q => ⟨rfl, hQ⟩, fun q => ⟨by omega, fun q2 => ⟨rfl, hQ⟩, fun q2 => absurd q2 (by omega)⟩⟩
    exact ⟨ha, fun q => M, fun q => ⟨by omega, fun q2 => absurd q2 (by omega), fun q2 => M⟩⟩
