/-! ===== TreeMap, 4: after an insertion ===== -/
abbrev wC (G : TG) (C : Nat → Int32) : TG := { G with C := C }
section TRI
variable {β : Type} {K : ZK} {H0 : ZH} {F : Nat → Prop} {t : Nat} {G : TG} {C0 : Nat → Int32} {c s : Nat} {Q : β → ZH → Prop} {X : Nat → ZH → Prop}
theorem TR.kP {x : Option Nat} {f : Option Nat → ZP β} (hx : ∀ n, x = some n → G.S n) (k : PW (TR H0 F t) (wC G C0) (f (x.bind G.P)) c s Q X) : PW (TR H0 F t) (wC G C0) (zcall (s_J1_parentOf K x) f) c s Q X := TR.cP hx k
theorem TR.kL {x : Option Nat} {f : Option Nat → ZP β} (hx : ∀ n, x = some n → G.S n) (k : PW (TR H0 F t) (wC G C0) (f (x.bind G.L)) c s Q X) : PW (TR H0 F t) (wC G C0) (zcall (s_J1_leftOf K x) f) c s Q X := TR.cL hx k
theorem TR.kR {x : Option Nat} {f : Option Nat → ZP β} (hx : ∀ n, x = some n → G.S n) (k : PW (TR H0 F t) (wC G C0) (f (x.bind G.R)) c s Q X) : PW (TR H0 F t) (wC G C0) (zcall (s_J1_rightOf K x) f) c s Q X := TR.cR hx k
theorem TR.kS {x : Option Nat} {v : Int32} {f : Unit → ZP β} (hv : v = 0 ∨ v = 1) (hC : TC (wC G C0)) (hx : ∀ n, x = some n → G.S n) (k : ∀ C', TC (wC G C') → (∀ n, x = some n → C' n = v) → (∀ n, x ≠ some n → C' n = C0 n) → PW (TR H0 F t) (wC G C') (f ()) c s Q X) : PW (TR H0 F t) (wC G C0) (zcall (s_J1_setColor K x v) f) c s Q X := by
  refine TR.cS hv hx ?_
  cases x with
  | none => exact k C0 hC (fun n h => nomatch h) (fun n _ => rfl)
  | some n =>
    refine k (pset C0 n v) (fun m hm => ?_) (fun m h => ?_) (fun m h => ?_)
    · show pset C0 n v m = 0 ∨ pset C0 n v m = 1
      unfold pset
      by_cases e : m = n
      · rw [if_pos e]; exact hv
      · rw [if_neg e]; exact hC m hm
    · cases h; simp [pset]
    · have : m ≠ n := fun e => h (by rw [e])
      simp [pset, this]
/-- the loop's measure -/
def tmI (G : TG) (C0 : Nat → Int32) (lo hi : Nat → Int) (v : Option Nat) : Nat := match v with
  | none => 0
  | some x => if oC (wC G C0) (G.P x) = 1 then 0 else 1 + (1001 - (hi x - lo x)).toNat
theorem TI_wC {kk lo hi : Nat → Int} (h : TI G kk lo hi) : TI (wC G C0) kk lo hi := TI_C h
theorem TR.jA {kk lo hi : Nat → Int} {x q : Nat} {self : Option Nat → ZP Unit} {Q : Unit → ZH → Prop} (hT : TI G kk lo hi) (hC : TC (wC G C0)) (hq : G.S q) (hl : G.L q = some x) (hg : ∀ g, G.P q = some g → G.L g = some q) (hself : ∀ G' lo' hi', TSame G G' → TI G' kk lo' hi' → TC G' → oC G' (G'.P x) = 1 → PW (TR H0 F t) G' (self (some x)) c s Q X) : PW (TR H0 F t) (wC G C0) (s_J1_fixAfterInsertion_J118 K t (some x) self) c s Q X := by
  have hx : G.S x ∧ G.P x = some q := by have := hT.lS; have := hT.rS; grind
  obtain ⟨hx, hP⟩ := hx
  unfold s_J1_fixAfterInsertion_J118
  refine TR.kP (by grind) ?_
  simp only [Option.bind_some, hP]
  refine TR.kS (Or.inr rfl) hC (by grind) (fun C1 hC1 h1 h2 => ?_)
  refine TR.kP (by grind) ?_
  simp only [Option.bind_some, hP]
  refine TR.kP (by grind) ?_
  simp only [Option.bind_some]
  have hgS : ∀ n, G.P q = some n → G.S n := fun n h => (hT.par q n hq h).1
  refine TR.kS (Or.inl rfl) hC1 hgS (fun C2 hC2 h3 h4 => ?_)
  have hq1 : C2 q = 1 := by
    rw [h4 q (fun e => ?_), h1 q rfl]
    have h5 := hg q e
    have h6 := hT.lS
    have h7 := hT.rS
    have h8 := hT.bnd q hq
    grind
  refine TR.kP (by grind) ?_
  simp only [Option.bind_some, hP]
  refine TR.kP (by grind) ?_
  simp only [Option.bind_some]
  cases hG : G.P q with
  | none =>
    refine PW.callV (fun H h => ⟨_, h.1⟩) (PW.call 0 0 (Nat.zero_le _) (Nat.zero_le _) ?_)
    unfold s_J1_rotateRight
    refine PW.if_ (fun _ => PW.ret ?_) (fun h => absurd rfl h)
    refine hself _ lo hi ⟨rfl, rfl, rfl, rfl, rfl, rfl⟩ (TI_wC hT) hC2 ?_
    show oC (wC G C2) (G.P x) = 1
    rw [hP]
    exact hq1
  | some g =>
    refine TR.cRotR (G := wC G C2) (TI_wC hT) (hgS g hG) (hg g hG) (fun G' hR => ?_)
    obtain ⟨a1, a2, a3, a4, a5, a6, a7, a8, a9, -⟩ := hR
    have hS' : G'.S = G.S := a1.2.2.1
    refine hself G' _ _ a1 a3 (fun n hn => by rw [a2]; exact hC2 n (by rw [hS'] at hn; exact hn)) ?_
    have hq' : G'.S q := by rw [hS']; exact hq
    have a9 : G'.L q = some x := a9.trans hl
    have hP' : G'.P x = some q := (a3.lS q x hq' a9).2.1
    rw [hP']
    show G'.C q = 1
    rw [a2]
    exact hq1
theorem TR.jB {kk lo hi : Nat → Int} {x q : Nat} {self : Option Nat → ZP Unit} {Q : Unit → ZH → Prop} (hT : TI G kk lo hi) (hC : TC (wC G C0)) (hq : G.S q) (hl : G.R q = some x) (hg : ∀ g, G.P q = some g → G.R g = some q) (hself : ∀ G' lo' hi', TSame G G' → TI G' kk lo' hi' → TC G' → oC G' (G'.P x) = 1 → PW (TR H0 F t) G' (self (some x)) c s Q X) : PW (TR H0 F t) (wC G C0) (s_J1_fixAfterInsertion_J225 K t (some x) self) c s Q X := by
  have hx : G.S x ∧ G.P x = some q := by have := hT.lS; have := hT.rS; grind
  obtain ⟨hx, hP⟩ := hx
  unfold s_J1_fixAfterInsertion_J225
  refine TR.kP (by grind) ?_
  simp only [Option.bind_some, hP]
  refine TR.kS (Or.inr rfl) hC (by grind) (fun C1 hC1 h1 h2 => ?_)
  refine TR.kP (by grind) ?_
  simp only [Option.bind_some, hP]
  refine TR.kP (by grind) ?_
  simp only [Option.bind_some]
  have hgS : ∀ n, G.P q = some n → G.S n := fun n h => (hT.par q n hq h).1
  refine TR.kS (Or.inl rfl) hC1 hgS (fun C2 hC2 h3 h4 => ?_)
  have hq1 : C2 q = 1 := by
    rw [h4 q (fun e => ?_), h1 q rfl]
    have h5 := hg q e
    have h6 := hT.lS
    have h7 := hT.rS
    have h8 := hT.bnd q hq
    grind
  refine TR.kP (by grind) ?_
  simp only [Option.bind_some, hP]
  refine TR.kP (by grind) ?_
  simp only [Option.bind_some]
  cases hG : G.P q with
  | none =>
    refine PW.callV (fun H h => ⟨_, h.1⟩) (PW.call 0 0 (Nat.zero_le _) (Nat.zero_le _) ?_)
    unfold s_J1_rotateLeft
    refine PW.if_ (fun _ => PW.ret ?_) (fun h => absurd rfl h)
    refine hself _ lo hi ⟨rfl, rfl, rfl, rfl, rfl, rfl⟩ (TI_wC hT) hC2 ?_
    show oC (wC G C2) (G.P x) = 1
    rw [hP]
    exact hq1
  | some g =>
    refine TR.cRotL (G := wC G C2) (TI_wC hT) (hgS g hG) (hg g hG) (fun G' hR => ?_)
    obtain ⟨a1, a2, a3, a4, a5, a6, a7, a8, a9, -⟩ := hR
    have hS' : G'.S = G.S := a1.2.2.1
    refine hself G' _ _ a1 a3 (fun n hn => by rw [a2]; exact hC2 n (by rw [hS'] at hn; exact hn)) ?_
    have hq' : G'.S q := by rw [hS']; exact hq
    have a9 : G'.R q = some x := a9.trans hl
    have hP' : G'.P x = some q := (a3.rS q x hq' a9).2.1
    rw [hP']
    show G'.C q = 1
    rw [a2]
    exact hq1
theorem TR.cFixI {kk lo hi : Nat → Int} {x : Nat} {f : Unit → ZP β} (hT : TI G kk lo hi) (hC : TC G) (hx : G.S x) (k : ∀ G' lo' hi', TSame G G' → TI G' kk lo' hi' → TC G' → PW (TR H0 F t) G' (f ()) c s Q X) : PW (TR H0 F t) G (zcallV (some t) 0 (fun y0 => s_J1_fixAfterInsertion K y0 (some x)) f) c s Q X := by
  refine PW.callV (fun H h => ⟨_, h.1⟩) (PW.call 0 0 (Nat.zero_le _) (Nat.zero_le _) ?_)
  unfold s_J1_fixAfterInsertion
  refine TR.pC hx (Or.inl rfl) ?_
  unfold s_J1_fixAfterInsertion_L5
  refine PW.loop (n := tmI G (pset G.C x 0) lo hi (some x)) (fun n v g c' s' => TSame G g ∧ TC g ∧ ∃ lo hi, TI g kk lo hi ∧ (∀ y, v = some y → g.S y) ∧ tmI g g.C lo hi v ≤ n) ⟨⟨rfl, rfl, rfl, rfl, rfl, rfl⟩, ?_, lo, hi, TI_C hT, (fun y h => by cases h; exact hx), Nat.le_refl _⟩ ?_
  · intro n hn
    show pset G.C x 0 n = 0 ∨ pset G.C x 0 n = 1
    unfold pset
    by_cases e : n = x
    · rw [if_pos e]; exact Or.inl rfl
    · rw [if_neg e]; exact hC n hn
  rintro n v g c' s' ⟨hS, hC', lo', hi', hT', hv, hm⟩ self hself
  have hSx : g.S x := by rw [hS.2.2.1]; exact hx
  -- the end
  have hend : ∀ c' s', PW (TR H0 F t) g (s_J1_fixAfterInsertion_J258 K t) c' s' (fun r H' => f r H' (c - 0) (s - 0) Q X) X := by
    intro c' s'
    unfold s_J1_fixAfterInsertion_J258
    refine TR.groot ?_
    cases hr : g.root with
    | none => exact absurd hSx (hT'.rootN hr x)
    | some r =>
      have hrS := (hT'.rootS r hr).1
      refine TR.pC hrS (Or.inr rfl) (PW.ret (k _ lo' hi' (hS.tr ⟨rfl, rfl, rfl, rfl, rfl, rfl⟩) (TI_C hT') ?_))
      intro n hn
      show pset g.C r 1 n = 0 ∨ pset g.C r 1 n = 1
      unfold pset
      by_cases e : n = r
      · rw [if_pos e]; exact Or.inr rfl
      · rw [if_neg e]; exact hC' n hn
  unfold s_J1_fixAfterInsertion_B5
  cases v with
  | none => exact PW.if_ (fun _ => hend _ _) (fun h => absurd rfl h)
  | some y =>
  have hy := hv y rfl
  refine PW.if_ (fun h => nomatch h) (fun _ => TR.groot (PW.if_ (fun _ => hend _ _) (fun hyr => ?_)))
  refine TR.gP hy ?_
  cases hP : g.P y with
  | none => exact absurd (hT'.parN y hy hP).symm hyr
  | some p =>
  obtain ⟨hp, hpy⟩ := hT'.par y p hy hP
  refine TR.gC hp (PW.if_ (fun hpc => ?_) (fun _ => hend _ _))
  have hm1 : tmI g g.C lo' hi' (some y) = 1 + (1001 - (hi' y - lo' y)).toNat := by
    unfold tmI
    simp only [hP]
    exact if_neg (fun e => by
      have e : g.C p = 1 := e
      rw [hpc] at e; exact absurd e (by decide))
  rw [hm1] at hm
  have hb1 := hT'.bnd y hy
  have hb2 := hT'.bnd p hp
  refine TR.kP (C0 := g.C) (by grind) ?_
  simp only [Option.bind_some, hP]
  refine TR.kP (C0 := g.C) (by grind) ?_
  simp only [Option.bind_some, hP]
  refine TR.kP (C0 := g.C) (by grind) ?_
  simp only [Option.bind_some]
  refine TR.kL (C0 := g.C) (by intro n h; exact (hT'.par p n hp h).1) ?_
  have hpS : ∀ n, g.P p = some n → g.S n := fun n h => (hT'.par p n hp h).1
  have huL : ∀ n, (g.P p).bind g.L = some n → g.S n := by
    intro n h
    cases hG : g.P p with
    | none => rw [hG] at h; cases h
    | some q => rw [hG] at h; exact (hT'.lS q n (hpS q hG) h).1
  have huR : ∀ n, (g.P p).bind g.R = some n → g.S n := by
    intro n h
    cases hG : g.P p with
    | none => rw [hG] at h; cases h
    | some q => rw [hG] at h; exact (hT'.rS q n (hpS q hG) h).1
  have hz0 : ∀ (G2 : TG) (z : Nat) (lo2 hi2 : Nat → Int), oC G2 (G2.P z) = 1 → tmI G2 G2.C lo2 hi2 (some z) ≤ 0 := by
    intro G2 z lo2 hi2 h
    unfold tmI
    have h : oC (wC G2 G2.C) (G2.P z) = 1 := h
    simp only [h, if_true]
    exact Nat.le_refl _
  -- the grandparent is next
  have hgo : ∀ C3, TC (wC g C3) → PW (TR H0 F t) (wC g C3) (self (g.P p)) c' s' (fun r H' => f r H' (c - 0) (s - 0) Q X) X := by
    intro C3 hC3
    refine hself (tmI (wC g C3) C3 lo' hi' (g.P p)) (g.P p) _ _ _ _ _ ?_ ⟨hS.tr ⟨rfl, rfl, rfl, rfl, rfl, rfl⟩, hC3, lo', hi', TI_wC hT', hpS, Nat.le_refl _⟩
    cases hG : g.P p with
    | none => simp only [tmI]; omega
    | some q =>
      have hq := hpS q hG
      have h8 := hT'.bnd q hq
      obtain ⟨-, h9⟩ := hT'.par p q hp hG
      have h10 := hT'.lS q p hq
      have h11 := hT'.rS q p hq
      have h12 := hT'.lS p y hp
      have h13 := hT'.rS p y hp
      have h15 := hT'.rootS
      have h14 : hi' y - lo' y < hi' q - lo' q ∧ lo' q < lo' y + 1 ∧ hi' y < hi' q + 1 := by grind
      simp only [tmI]
      split
      · omega
      · have : (1001 - (hi' q - lo' q)).toNat < (1001 - (hi' y - lo' y)).toNat := by
          have h16 := hT'.gb q hq
          omega
        omega
  refine PW.if_ (fun hA => ?_) (fun hB => ?_)
  · have hgp : ∀ q, g.P p = some q → g.L q = some p := by
      intro q hq
      rw [hq] at hA
      exact hA.symm
    refine TR.kP (C0 := g.C) (by grind) ?_
    simp only [Option.bind_some, hP]
    refine TR.kP (C0 := g.C) (by grind) ?_
    simp only [Option.bind_some]
    refine TR.kR (C0 := g.C) hpS ?_
    refine TR.cC hC' huR (PW.if_ (fun hu => ?_) (fun _ => ?_))
    · refine TR.kP (C0 := g.C) (by grind) ?_
      simp only [Option.bind_some, hP]
      refine TR.kS (C0 := g.C) (Or.inr rfl) hC' (by grind) (fun C1 hC1 _ _ => ?_)
      refine TR.kS (Or.inr rfl) hC1 huR (fun C2 hC2 _ _ => ?_)
      refine TR.kP (by grind) ?_
      simp only [Option.bind_some, hP]
      refine TR.kP (by grind) ?_
      simp only [Option.bind_some]
      refine TR.kS (Or.inl rfl) hC2 hpS (fun C3 hC3 _ _ => ?_)
      refine TR.kP (by grind) ?_
      simp only [Option.bind_some, hP]
      refine TR.kP (by grind) ?_
      simp only [Option.bind_some]
      exact hgo C3 hC3
    · refine TR.kP (C0 := g.C) (by grind) ?_
      simp only [Option.bind_some, hP]
      refine TR.kR (C0 := g.C) (by grind) ?_
      simp only [Option.bind_some]
      refine PW.if_ (fun hxr => ?_) (fun hxr => ?_)
      · refine TR.kP (C0 := g.C) (by grind) ?_
        simp only [Option.bind_some, hP]
        refine TR.cRotL (G := wC g g.C) (TI_wC hT') hp hxr.symm (fun G' hR => ?_)
        obtain ⟨a1, a2, a3, a4, a5, a6, a7, a8, a9, -⟩ := hR
        have hS' : G'.S = g.S := a1.2.2.1
        have hp' : G'.S p := by rw [hS']; exact hp
        have hy' : G'.S y := by rw [hS']; exact hy
        have a5 : G'.P y = g.P p := a5
        refine TR.jA (G := G') (C0 := G'.C) a3 (fun n hn => by rw [show (wC G' G'.C).C = g.C from a2]; exact hC' n (by rw [← hS']; exact hn)) hy' a6 (fun q hq => ?_) (fun G2 lo2 hi2 b1 b2 b3 b4 => hself 0 (some p) G2 _ _ _ _ (by omega) ⟨hS.tr (TSame.tr a1 b1), b3, lo2, hi2, b2, (fun z hz => by cases hz; rw [b1.2.2.1]; exact hp'), hz0 G2 p lo2 hi2 b4⟩)
        rw [a5] at hq
        have h8 := hT'.bnd p hp
        have h9 := hT'.bnd y hy
        have h10 := hT'.rS
        have h11 := hT'.lS
        have h12 := a3.par y q hy' (a5.trans hq)
        have h13 := a3.lS q y
        have h14 := a3.rS q y
        have h15 := a3.bnd y hy'
        have h16 := hgp q hq
        have h17 := h11 q p
        have h18 := h10 q p
        simp only [pset] at h13 h14 h15
        grind
      · have hlp : g.L p = some y := by grind
        refine TR.jA (G := g) (C0 := g.C) hT' hC' hp hlp hgp (fun G2 lo2 hi2 b1 b2 b3 b4 => hself 0 (some y) G2 _ _ _ _ (by omega) ⟨hS.tr b1, b3, lo2, hi2, b2, (fun z hz => by cases hz; rw [b1.2.2.1]; exact hy), hz0 G2 y lo2 hi2 b4⟩)
  · have hgp : ∀ q, g.P p = some q → g.R q = some p := by
      intro q hq
      rw [hq] at hB
      obtain ⟨-, h9⟩ := hT'.par p q hp hq
      rcases h9 with h9 | h9
      · exact absurd h9.symm hB
      · exact h9
    refine TR.kP (C0 := g.C) (by grind) ?_
    simp only [Option.bind_some, hP]
    refine TR.kP (C0 := g.C) (by grind) ?_
    simp only [Option.bind_some]
    refine TR.kL (C0 := g.C) hpS ?_
    refine TR.cC hC' huL (PW.if_ (fun hu => ?_) (fun _ => ?_))
    · refine TR.kP (C0 := g.C) (by grind) ?_
      simp only [Option.bind_some, hP]
      refine TR.kS (C0 := g.C) (Or.inr rfl) hC' (by grind) (fun C1 hC1 _ _ => ?_)
      refine TR.kS (Or.inr rfl) hC1 huL (fun C2 hC2 _ _ => ?_)
      refine TR.kP (by grind) ?_
      simp only [Option.bind_some, hP]
      refine TR.kP (by grind) ?_
      simp only [Option.bind_some]
      refine TR.kS (Or.inl rfl) hC2 hpS (fun C3 hC3 _ _ => ?_)
      refine TR.kP (by grind) ?_
      simp only [Option.bind_some, hP]
      refine TR.kP (by grind) ?_
      simp only [Option.bind_some]
      exact hgo C3 hC3
    · refine TR.kP (C0 := g.C) (by grind) ?_
      simp only [Option.bind_some, hP]
      refine TR.kL (C0 := g.C) (by grind) ?_
      simp only [Option.bind_some]
      refine PW.if_ (fun hxr => ?_) (fun hxr => ?_)
      · refine TR.kP (C0 := g.C) (by grind) ?_
        simp only [Option.bind_some, hP]
        refine TR.cRotR (G := wC g g.C) (TI_wC hT') hp hxr.symm (fun G' hR => ?_)
        obtain ⟨a1, a2, a3, a4, a5, a6, a7, a8, a9, -⟩ := hR
        have hS' : G'.S = g.S := a1.2.2.1
        have hp' : G'.S p := by rw [hS']; exact hp
        have hy' : G'.S y := by rw [hS']; exact hy
        have a5 : G'.P y = g.P p := a5
        refine TR.jB (G := G') (C0 := G'.C) a3 (fun n hn => by rw [show (wC G' G'.C).C = g.C from a2]; exact hC' n (by rw [← hS']; exact hn)) hy' a6 (fun q hq => ?_) (fun G2 lo2 hi2 b1 b2 b3 b4 => hself 0 (some p) G2 _ _ _ _ (by omega) ⟨hS.tr (TSame.tr a1 b1), b3, lo2, hi2, b2, (fun z hz => by cases hz; rw [b1.2.2.1]; exact hp'), hz0 G2 p lo2 hi2 b4⟩)
        rw [a5] at hq
        have h8 := hT'.bnd p hp
        have h9 := hT'.bnd y hy
        have h10 := hT'.rS
        have h11 := hT'.lS
        have h12 := a3.par y q hy' (a5.trans hq)
        have h13 := a3.lS q y
        have h14 := a3.rS q y
        have h15 := a3.bnd y hy'
        have h16 := hgp q hq
        have h17 := h11 q p
        have h18 := h10 q p
        simp only [pset] at h13 h14 h15
        grind
      · have hlp : g.R p = some y := by grind
        refine TR.jB (G := g) (C0 := g.C) hT' hC' hp hlp hgp (fun G2 lo2 hi2 b1 b2 b3 b4 => hself 0 (some y) G2 _ _ _ _ (by omega) ⟨hS.tr b1, b3, lo2, hi2, b2, (fun z hz => by cases hz; rw [b1.2.2.1]; exact hy), hz0 G2 y lo2 hi2 b4⟩)
end TRI
