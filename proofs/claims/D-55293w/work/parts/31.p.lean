/-! ===== TreeMap, 2: shape ===== -/
/-- a search tree with parents: every node spans the keys between lo and hi -/
structure TI (G : TG) (kk lo hi : Nat → Int) : Prop where
  rootS : ∀ r, G.root = some r → G.S r ∧ G.P r = none ∧ lo r = -1 ∧ hi r = 1000
  rootN : G.root = none → ∀ n, ¬ G.S n
  bnd : ∀ n, G.S n → lo n < kk n ∧ kk n < hi n
  lN : ∀ n m, G.S n → G.L n = none → G.S m → lo n < kk m → kk m < kk n → False
  lS : ∀ n c, G.S n → G.L n = some c → G.S c ∧ G.P c = some n ∧ lo c = lo n ∧ hi c = kk n
  rN : ∀ n m, G.S n → G.R n = none → G.S m → kk n < kk m → kk m < hi n → False
  rS : ∀ n c, G.S n → G.R n = some c → G.S c ∧ G.P c = some n ∧ lo c = kk n ∧ hi c = hi n
  par : ∀ n p, G.S n → G.P n = some p → G.S p ∧ (G.L p = some n ∨ G.R p = some n)
  parN : ∀ n, G.S n → G.P n = none → G.root = some n
  inj : ∀ n m, G.S n → G.S m → kk n = kk m → n = m
  gb : ∀ n, G.S n → -1 ≤ lo n ∧ hi n ≤ 1000
  gLR : ∀ n m, G.S n → G.S m → G.L n = none → G.R m = none → kk n ≤ kk m ∨ hi m ≤ lo n
  gLL : ∀ n m, G.S n → G.S m → G.L n = none → G.L m = none → n = m ∨ kk n ≤ lo m ∨ kk m ≤ lo n
  gRR : ∀ n m, G.S n → G.S m → G.R n = none → G.R m = none → n = m ∨ hi n ≤ kk m ∨ hi m ≤ kk n
  eL : ∀ n, G.S n → lo n = -1 ∨ ∃ a, G.S a ∧ kk a = lo n
  eH : ∀ n, G.S n → hi n = 1000 ∨ ∃ a, G.S a ∧ kk a = hi n
theorem TI_C {G : TG} {kk lo hi : Nat → Int} {C : Nat → Int32} (h : TI G kk lo hi) : TI { G with C := C } kk lo hi := ⟨h.1, h.2, h.3, h.4, h.5, h.6, h.7, h.8, h.9, h.10, h.11, h.12, h.13, h.14, h.15, h.16⟩
/-- the same but for the shape -/
def TSame (G G' : TG) : Prop := G'.key = G.key ∧ G'.val = G.val ∧ G'.S = G.S ∧ G'.vw = G.vw ∧ G'.sz = G.sz ∧ G'.md = G.md
theorem TSame.rf {G : TG} : TSame G G := ⟨rfl, rfl, rfl, rfl, rfl, rfl⟩
theorem TSame.tr {G G1 G2 : TG} (h : TSame G G1) (g : TSame G1 G2) : TSame G G2 := ⟨g.1.trans h.1, g.2.1.trans h.2.1, g.2.2.1.trans h.2.2.1, g.2.2.2.1.trans h.2.2.2.1, g.2.2.2.2.1.trans h.2.2.2.2.1, g.2.2.2.2.2.trans h.2.2.2.2.2⟩
theorem TI.noLo {G : TG} {kk lo hi : Nat → Int} (h : TI G kk lo hi) {p : Nat} (hp : G.S p) (hR : G.R p = none) : ∀ n, G.S n → lo n ≠ kk p := by
  have key : ∀ (k n : Nat), G.S n → lo n = kk p → (hi n - lo n).toNat ≤ k → False := by
    intro k
    induction k with
    | zero =>
      intro n hn e hk
      have h1 := h.bnd n hn
      omega
    | succ k ih =>
      intro n hn e hk
      have h1 := h.bnd n hn
      have h2 := h.bnd p hp
      cases hl : G.L n with
      | none =>
        rcases h.gLR n p hn hp hl hR with h3 | h3 <;> omega
      | some c =>
        have h3 := h.lS n c hn hl
        exact ih c h3.1 (by omega) (by omega)
  exact fun n hn e => key _ n hn e (Nat.le_refl _)
theorem TI.noHi {G : TG} {kk lo hi : Nat → Int} (h : TI G kk lo hi) {p : Nat} (hp : G.S p) (hL : G.L p = none) : ∀ n, G.S n → hi n ≠ kk p := by
  have key : ∀ (k n : Nat), G.S n → hi n = kk p → (hi n - lo n).toNat ≤ k → False := by
    intro k
    induction k with
    | zero =>
      intro n hn e hk
      have h1 := h.bnd n hn
      omega
    | succ k ih =>
      intro n hn e hk
      have h1 := h.bnd n hn
      have h2 := h.bnd p hp
      cases hl : G.R n with
      | none =>
        rcases h.gLR p n hp hn hL hl with h3 | h3 <;> omega
      | some c =>
        have h3 := h.rS n c hn hl
        exact ih c h3.1 (by omega) (by omega)
  exact fun n hn e => key _ n hn e (Nat.le_refl _)
