/-! ===== TreeMap, 5: after a deletion ===== -/
/-- a leaf that must stay one, in the span of x -/
def LF (G : TG) (kk lo hi : Nat → Int) (x lf : Option Nat) : Prop := ∀ p, lf = some p → G.S p ∧ G.L p = none ∧ G.R p = none ∧ ∀ y, x = some y → lo y < kk p ∧ kk p < hi y
def tmD (G : TG) (lo hi : Nat → Int) (v : Option Nat) : Nat := if v = G.root ∨ oC G v ≠ 1 then 0 else match v with
  | none => 0
  | some x => 1 + (1001 - (hi x - lo x)).toNat
section TRD
variable {K : ZK} {H0 : ZH} {F : Nat → Prop} {t : Nat} {G : TG} {C0 : Nat → Int32} {c s : Nat} {X : Nat → ZH → Prop}
/-- s_J1_fixAfterDeletion_J143 -/
theorem TR.dA1 {kk lo hi : Nat → Int} {x a sb : Nat} {lf : Option Nat} {self : Option Nat → ZP Unit} {Q : Unit → ZH → Prop} (hT : TI G kk lo hi) (hC : TC (wC G C0)) (ha : G.S a) (hl : G.L a = some x) (hr : G.R a = some sb) (hf : LF G kk lo hi (some x) lf) (hself : ∀ G' lo' hi' v', TSame G G' → TI G' kk lo' hi' → TC G' → LF G' kk lo' hi' v' lf → v' = G'.root → (∀ y, v' = some y → G'.S y) → PW (TR H0 F t) G' (self v') c s Q X) : PW (TR H0 F t) (wC G C0) (s_J1_fixAfterDeletion_J143 K t (some x) (some sb) self) c s Q X := by
  obtain ⟨hx, hP⟩ : G.S x ∧ G.P x = some a := by have := hT.lS; have := hT.rS; grind
  obtain ⟨hs, hPs⟩ : G.S sb ∧ G.P sb = some a := by have := hT.lS; have := hT.rS; grind
  unfold s_J1_fixAfterDeletion_J143
  refine TR.kP (by grind) ?_
  simp only [Option.bind_some, hP]
  refine TR.cC hC (by grind) ?_
  refine TR.kS (hC a ha) hC (by grind) (fun C1 hC1 _ _ => ?_)
  refine TR.kP (by grind) ?_
  simp only [Option.bind_some, hP]
  refine TR.kS (Or.inr rfl) hC1 (by grind) (fun C2 hC2 _ _ => ?_)
  refine TR.kR (by grind) ?_
  simp only [Option.bind_some]
  refine TR.kS (Or.inr rfl) hC2 (by have := hT.lS; have := hT.rS; grind) (fun C3 hC3 _ _ => ?_)
  refine TR.kP (by grind) ?_
  simp only [Option.bind_some, hP]
  refine TR.cRotL (G := wC G C3) (TI_wC hT) ha hr (fun G' hR => ?_)
  obtain ⟨a1, a2, a3, a4, a5, a6, a7, a8, a9, a10⟩ := hR
  have hS' : G'.S = G.S := a1.2.2.1
  refine TR.groot (hself G' _ _ G'.root a1 a3 (fun n hn => by rw [a2]; exact hC3 n (by rw [hS'] at hn; exact hn)) ?_ rfl (fun y hy => (a3.rootS y hy).1))
  intro p hp
  obtain ⟨p1, p2, p3, p4⟩ := hf p hp
  have h1 := p4 x rfl
  have h2 := hT.lS
  have h3 := hT.rS
  have h4 := hT.bnd
  have hpa : p ≠ a := by grind
  have hps : p ≠ sb := by grind
  have h5 := a10 p hpa hps
  refine ⟨by rw [hS']; exact p1, h5.1 p2, h5.2.1 p3, fun y hy => ?_⟩
  have h6 := a3.rootS y hy
  have h7 := a3.bnd p (by rw [hS']; exact p1)
  have h8 := a3.gb p (by rw [hS']; exact p1)
  omega
/-- s_J1_fixAfterDeletion_J106 -/
theorem TR.dA2 {kk lo hi : Nat → Int} {x a sb : Nat} {lf : Option Nat} {self : Option Nat → ZP Unit} {Q : Unit → ZH → Prop} (hT : TI G kk lo hi) (hC : TC (wC G C0)) (ha : G.S a) (hl : G.L a = some x) (hr : G.R a = some sb) (hnb : ¬ (oC (wC G C0) (G.L sb) = 1 ∧ oC (wC G C0) (G.R sb) = 1)) (hf : LF G kk lo hi (some x) lf) (hself : ∀ G' lo' hi' v', TSame G G' → TI G' kk lo' hi' → TC G' → LF G' kk lo' hi' v' lf → v' = G'.root → (∀ y, v' = some y → G'.S y) → PW (TR H0 F t) G' (self v') c s Q X) : PW (TR H0 F t) (wC G C0) (s_J1_fixAfterDeletion_J106 K t (some x) (some sb) self) c s Q X := by
  obtain ⟨hx, hP⟩ : G.S x ∧ G.P x = some a := by have := hT.lS; have := hT.rS; grind
  obtain ⟨hs, hPs⟩ : G.S sb ∧ G.P sb = some a := by have := hT.lS; have := hT.rS; grind
  have hsL : ∀ n, G.L sb = some n → G.S n := fun n h => (hT.lS sb n hs h).1
  have hsR : ∀ n, G.R sb = some n → G.S n := fun n h => (hT.rS sb n hs h).1
  unfold s_J1_fixAfterDeletion_J106
  refine TR.kR (by grind) ?_
  simp only [Option.bind_some]
  refine TR.cC hC hsR (PW.if_ (fun hb => ?_) (fun _ => TR.dA1 hT hC ha hl hr hf hself))
  cases hq : G.L sb with
  | none =>
    exfalso
    have : oC (wC G C0) (G.L sb) = 1 := by rw [hq]; rfl
    exact hnb (by first | exact ⟨this, hb⟩ | exact ⟨hb, this⟩)
  | some q =>
    have hqS := hsL q hq
    refine TR.kL (by grind) ?_
    simp only [Option.bind_some, hq]
    refine TR.kS (Or.inr rfl) hC (by grind) (fun C1 hC1 _ _ => ?_)
    refine TR.kS (Or.inl rfl) hC1 (by grind) (fun C2 hC2 _ _ => ?_)
    refine TR.cRotR (G := wC G C2) (TI_wC hT) hs hq (fun G' hR => ?_)
    obtain ⟨a1, a2, a3, a4, a5, a6, a7, a8, a9, a10⟩ := hR
    have hS' : G'.S = G.S := a1.2.2.1
    have h1 := hT.lS
    have h2 := hT.rS
    have h3 := hT.bnd
    have hxs : x ≠ sb := by grind
    have hxq : x ≠ q := by grind
    have hxm : G.R q ≠ some x := by grind
    have hP' : G'.P x = some a := ((a10 x hxs hxq).2.2 hxm).trans hP
    have hx' : G'.S x := by rw [hS']; exact hx
    have ha' : G'.S a := by rw [hS']; exact ha
    have hq' : G'.S q := by rw [hS']; exact hqS
    have hPq : G'.P q = some a := a5.trans hPs
    have h4 := a3.par x a hx' hP'
    have h5 := a3.par q a hq' hPq
    have h6 := a3.lS
    have h7 := a3.rS
    have h8 := a3.bnd
    have hrq : G'.R a = some q ∧ G'.L a = some x := by
      have e1 := h1 a x ha
      have e2 := h2 a sb ha
      have e3 := h1 a sb ha
      have e4 := h2 a x ha
      have f1 := h6 a x ha'
      have f2 := h6 a q ha'
      have f3 := h7 a x ha'
      have f4 := h7 a q ha'
      have g1 := h3 a ha
      have g2 := h3 sb hs
      have g3 := h3 x hx
      simp only [pset] at f1 f2 f3 f4
      grind
    refine TR.kP (G := G') (C0 := G'.C) (by grind) ?_
    simp only [Option.bind_some, hP']
    refine TR.kR (G := G') (C0 := G'.C) (by grind) ?_
    simp only [Option.bind_some, hrq.1]
    refine TR.dA1 (G := G') (C0 := G'.C) a3 (fun n hn => by rw [show (wC G' G'.C).C = C2 from a2]; exact hC2 n (by rw [← hS']; exact hn)) ha' hrq.2 hrq.1 ?_ (fun G2 lo2 hi2 v2 b1 b2 b3 b4 b5 b6 => hself G2 lo2 hi2 v2 (TSame.tr a1 b1) b2 b3 b4 b5 b6)
    intro p hp
    obtain ⟨p1, p2, p3, p4⟩ := hf p hp
    have k1 := p4 x rfl
    have hps : p ≠ sb := by grind
    have hpq : p ≠ q := by grind
    have k2 := a10 p hps hpq
    refine ⟨by rw [hS']; exact p1, k2.1 p2, k2.2.1 p3, fun y hy => ?_⟩
    cases hy
    simp only [pset, if_neg hxs, if_neg hxq]
    exact k1
/-- s_J1_fixAfterDeletion_J71 -/
theorem TR.dA3 {kk lo hi : Nat → Int} {x a : Nat} {N : Nat} {lf : Option Nat} {self : Option Nat → ZP Unit} {Q : Unit → ZH → Prop} (hT : TI G kk lo hi) (hC : TC (wC G C0)) (ha : G.S a) (hl : G.L a = some x) (hf : LF G kk lo hi (some x) lf) (hN : 1 + (1001 - (hi x - lo x)).toNat ≤ N) (hself : ∀ G' lo' hi' v', TSame G G' → TI G' kk lo' hi' → TC G' → LF G' kk lo' hi' v' lf → tmD G' lo' hi' v' < N → (∀ y, v' = some y → G'.S y) → v' ≠ none → PW (TR H0 F t) G' (self v') c s Q X) : PW (TR H0 F t) (wC G C0) (s_J1_fixAfterDeletion_J71 K t (some x) (G.R a) self) c s Q X := by
  obtain ⟨hx, hP⟩ : G.S x ∧ G.P x = some a := by have := hT.lS; have := hT.rS; grind
  have hsS : ∀ n, G.R a = some n → G.S n := by intro n h; have := hT.lS; have := hT.rS; grind
  have hsL : ∀ n, (G.R a).bind G.L = some n → G.S n := by
    intro n h
    cases hq : G.R a with
    | none => rw [hq] at h; cases h
    | some q => rw [hq] at h; exact (hT.lS q n (hsS q hq) h).1
  have hsR : ∀ n, (G.R a).bind G.R = some n → G.S n := by
    intro n h
    cases hq : G.R a with
    | none => rw [hq] at h; cases h
    | some q => rw [hq] at h; exact (hT.rS q n (hsS q hq) h).1
  have hroot : ∀ G' lo' hi' v', TSame G G' → TI G' kk lo' hi' → TC G' → LF G' kk lo' hi' v' lf → v' = G'.root → (∀ y, v' = some y → G'.S y) → PW (TR H0 F t) G' (self v') c s Q X := by
    intro G' lo' hi' v' b1 b2 b3 b4 b5 b6
    refine hself G' lo' hi' v' b1 b2 b3 b4 ?_ b6 ?_
    · unfold tmD
      rw [if_pos (Or.inl b5)]
      omega
    · intro e
      rw [e] at b5
      exact b2.rootN b5.symm x (by rw [b1.2.2.1]; exact hx)
  unfold s_J1_fixAfterDeletion_J71
  refine TR.kL hsS ?_
  refine TR.cC hC hsL (PW.if_ (fun hb1 => ?_) (fun hb1 => ?_))
  · refine TR.kR hsS ?_
    refine TR.cC hC hsR (PW.if_ (fun hb2 => ?_) (fun hb2 => ?_))
    · refine TR.kS (Or.inl rfl) hC hsS (fun C1 hC1 _ _ => ?_)
      refine TR.kP (by grind) ?_
      simp only [Option.bind_some, hP]
      have h2 := hT.lS
      have h3 := hT.rS
      have h4 := hT.bnd a ha
      have h5 := hT.bnd x hx
      have h6 := hT.gb a ha
      have h7 : hi x - lo x < hi a - lo a ∧ lo a ≤ lo x ∧ hi x ≤ hi a := by grind
      refine hself (wC G C1) lo hi (some a) ⟨rfl, rfl, rfl, rfl, rfl, rfl⟩ (TI_wC hT) hC1 ?_ ?_ (fun y hy => by cases hy; exact ha) (fun e => nomatch e)
      · intro p hp
        obtain ⟨p1, p2, p3, p4⟩ := hf p hp
        have k1 := p4 x rfl
        refine ⟨p1, p2, p3, fun y hy => ?_⟩
        cases hy
        omega
      · unfold tmD
        split
        · omega
        · dsimp only
          omega
    · cases hq : G.R a with
      | none => exact absurd (by rw [hq]; rfl) hb2
      | some q =>
        rw [hq] at hb1 hb2
        exact TR.dA2 hT hC ha hl hq (fun h => by first | exact hb2 h.1 | exact hb2 h.2) hf hroot
  · cases hq : G.R a with
    | none => exact absurd (by rw [hq]; rfl) hb1
    | some q =>
      rw [hq] at hb1
      exact TR.dA2 hT hC ha hl hq (fun h => by first | exact hb1 h.1 | exact hb1 h.2) hf hroot
/-- s_J1_fixAfterDeletion_J302 -/
theorem TR.dB1 {kk lo hi : Nat → Int} {x a sb : Nat} {lf : Option Nat} {self : Option Nat → ZP Unit} {Q : Unit → ZH → Prop} (hT : TI G kk lo hi) (hC : TC (wC G C0)) (ha : G.S a) (hl : G.R a = some x) (hr : G.L a = some sb) (hf : LF G kk lo hi (some x) lf) (hself : ∀ G' lo' hi' v', TSame G G' → TI G' kk lo' hi' → TC G' → LF G' kk lo' hi' v' lf → v' = G'.root → (∀ y, v' = some y → G'.S y) → PW (TR H0 F t) G' (self v') c s Q X) : PW (TR H0 F t) (wC G C0) (s_J1_fixAfterDeletion_J302 K t (some x) (some sb) self) c s Q X := by
  obtain ⟨hx, hP⟩ : G.S x ∧ G.P x = some a := by have := hT.lS; have := hT.rS; grind
  obtain ⟨hs, hPs⟩ : G.S sb ∧ G.P sb = some a := by have := hT.lS; have := hT.rS; grind
  unfold s_J1_fixAfterDeletion_J302
  refine TR.kP (by grind) ?_
  simp only [Option.bind_some, hP]
  refine TR.cC hC (by grind) ?_
  refine TR.kS (hC a ha) hC (by grind) (fun C1 hC1 _ _ => ?_)
  refine TR.kP (by grind) ?_
  simp only [Option.bind_some, hP]
  refine TR.kS (Or.inr rfl) hC1 (by grind) (fun C2 hC2 _ _ => ?_)
  refine TR.kL (by grind) ?_
  simp only [Option.bind_some]
  refine TR.kS (Or.inr rfl) hC2 (by have := hT.lS; have := hT.rS; grind) (fun C3 hC3 _ _ => ?_)
  refine TR.kP (by grind) ?_
  simp only [Option.bind_some, hP]
  refine TR.cRotR (G := wC G C3) (TI_wC hT) ha hr (fun G' hR => ?_)
  obtain ⟨a1, a2, a3, a4, a5, a6, a7, a8, a9, a10⟩ := hR
  have hS' : G'.S = G.S := a1.2.2.1
  refine TR.groot (hself G' _ _ G'.root a1 a3 (fun n hn => by rw [a2]; exact hC3 n (by rw [hS'] at hn; exact hn)) ?_ rfl (fun y hy => (a3.rootS y hy).1))
  intro p hp
  obtain ⟨p1, p2, p3, p4⟩ := hf p hp
  have h1 := p4 x rfl
  have h2 := hT.lS
  have h3 := hT.rS
  have h4 := hT.bnd
  have hpa : p ≠ a := by grind
  have hps : p ≠ sb := by grind
  have h5 := a10 p hpa hps
  refine ⟨by rw [hS']; exact p1, h5.1 p2, h5.2.1 p3, fun y hy => ?_⟩
  have h6 := a3.rootS y hy
  have h7 := a3.bnd p (by rw [hS']; exact p1)
  have h8 := a3.gb p (by rw [hS']; exact p1)
  omega
/-- s_J1_fixAfterDeletion_J265 -/
theorem TR.dB2 {kk lo hi : Nat → Int} {x a sb : Nat} {lf : Option Nat} {self : Option Nat → ZP Unit} {Q : Unit → ZH → Prop} (hT : TI G kk lo hi) (hC : TC (wC G C0)) (ha : G.S a) (hl : G.R a = some x) (hr : G.L a = some sb) (hnb : ¬ (oC (wC G C0) (G.L sb) = 1 ∧ oC (wC G C0) (G.R sb) = 1)) (hf : LF G kk lo hi (some x) lf) (hself : ∀ G' lo' hi' v', TSame G G' → TI G' kk lo' hi' → TC G' → LF G' kk lo' hi' v' lf → v' = G'.root → (∀ y, v' = some y → G'.S y) → PW (TR H0 F t) G' (self v') c s Q X) : PW (TR H0 F t) (wC G C0) (s_J1_fixAfterDeletion_J265 K t (some x) (some sb) self) c s Q X := by
  obtain ⟨hx, hP⟩ : G.S x ∧ G.P x = some a := by have := hT.lS; have := hT.rS; grind
  obtain ⟨hs, hPs⟩ : G.S sb ∧ G.P sb = some a := by have := hT.lS; have := hT.rS; grind
  have hsL : ∀ n, G.L sb = some n → G.S n := fun n h => (hT.lS sb n hs h).1
  have hsR : ∀ n, G.R sb = some n → G.S n := fun n h => (hT.rS sb n hs h).1
  unfold s_J1_fixAfterDeletion_J265
  refine TR.kL (by grind) ?_
  simp only [Option.bind_some]
  refine TR.cC hC hsL (PW.if_ (fun hb => ?_) (fun _ => TR.dB1 hT hC ha hl hr hf hself))
  cases hq : G.R sb with
  | none =>
    exfalso
    have : oC (wC G C0) (G.R sb) = 1 := by rw [hq]; rfl
    exact hnb (by first | exact ⟨this, hb⟩ | exact ⟨hb, this⟩)
  | some q =>
    have hqS := hsR q hq
    refine TR.kR (by grind) ?_
    simp only [Option.bind_some, hq]
    refine TR.kS (Or.inr rfl) hC (by grind) (fun C1 hC1 _ _ => ?_)
    refine TR.kS (Or.inl rfl) hC1 (by grind) (fun C2 hC2 _ _ => ?_)
    refine TR.cRotL (G := wC G C2) (TI_wC hT) hs hq (fun G' hR => ?_)
    obtain ⟨a1, a2, a3, a4, a5, a6, a7, a8, a9, a10⟩ := hR
    have hS' : G'.S = G.S := a1.2.2.1
    have h1 := hT.lS
    have h2 := hT.rS
    have h3 := hT.bnd
    have hxs : x ≠ sb := by grind
    have hxq : x ≠ q := by grind
    have hxm : G.L q ≠ some x := by grind
    have hP' : G'.P x = some a := ((a10 x hxs hxq).2.2 hxm).trans hP
    have hx' : G'.S x := by rw [hS']; exact hx
    have ha' : G'.S a := by rw [hS']; exact ha
    have hq' : G'.S q := by rw [hS']; exact hqS
    have hPq : G'.P q = some a := a5.trans hPs
    have h4 := a3.par x a hx' hP'
    have h5 := a3.par q a hq' hPq
    have h6 := a3.lS
    have h7 := a3.rS
    have h8 := a3.bnd
    have hrq : G'.L a = some q ∧ G'.R a = some x := by
      have e1 := h1 a x ha
      have e2 := h2 a sb ha
      have e3 := h1 a sb ha
      have e4 := h2 a x ha
      have f1 := h6 a x ha'
      have f2 := h6 a q ha'
      have f3 := h7 a x ha'
      have f4 := h7 a q ha'
      have g1 := h3 a ha
      have g2 := h3 sb hs
      have g3 := h3 x hx
      simp only [pset] at f1 f2 f3 f4
      grind
    refine TR.kP (G := G') (C0 := G'.C) (by grind) ?_
    simp only [Option.bind_some, hP']
    refine TR.kL (G := G') (C0 := G'.C) (by grind) ?_
    simp only [Option.bind_some, hrq.1]
    refine TR.dB1 (G := G') (C0 := G'.C) a3 (fun n hn => by rw [show (wC G' G'.C).C = C2 from a2]; exact hC2 n (by rw [← hS']; exact hn)) ha' hrq.2 hrq.1 ?_ (fun G2 lo2 hi2 v2 b1 b2 b3 b4 b5 b6 => hself G2 lo2 hi2 v2 (TSame.tr a1 b1) b2 b3 b4 b5 b6)
    intro p hp
    obtain ⟨p1, p2, p3, p4⟩ := hf p hp
    have k1 := p4 x rfl
    have hps : p ≠ sb := by grind
    have hpq : p ≠ q := by grind
    have k2 := a10 p hps hpq
    refine ⟨by rw [hS']; exact p1, k2.1 p2, k2.2.1 p3, fun y hy => ?_⟩
    cases hy
    simp only [pset, if_neg hxs, if_neg hxq]
    exact k1
/-- s_J1_fixAfterDeletion_J230 -/
theorem TR.dB3 {kk lo hi : Nat → Int} {x a : Nat} {N : Nat} {lf : Option Nat} {self : Option Nat → ZP Unit} {Q : Unit → ZH → Prop} (hT : TI G kk lo hi) (hC : TC (wC G C0)) (ha : G.S a) (hl : G.R a = some x) (hf : LF G kk lo hi (some x) lf) (hN : 1 + (1001 - (hi x - lo x)).toNat ≤ N) (hself : ∀ G' lo' hi' v', TSame G G' → TI G' kk lo' hi' → TC G' → LF G' kk lo' hi' v' lf → tmD G' lo' hi' v' < N → (∀ y, v' = some y → G'.S y) → v' ≠ none → PW (TR H0 F t) G' (self v') c s Q X) : PW (TR H0 F t) (wC G C0) (s_J1_fixAfterDeletion_J230 K t (some x) (G.L a) self) c s Q X := by
  obtain ⟨hx, hP⟩ : G.S x ∧ G.P x = some a := by have := hT.lS; have := hT.rS; grind
  have hsS : ∀ n, G.L a = some n → G.S n := by intro n h; have := hT.lS; have := hT.rS; grind
  have hsL : ∀ n, (G.L a).bind G.L = some n → G.S n := by
    intro n h
    cases hq : G.L a with
    | none => rw [hq] at h; cases h
    | some q => rw [hq] at h; exact (hT.lS q n (hsS q hq) h).1
  have hsR : ∀ n, (G.L a).bind G.R = some n → G.S n := by
    intro n h
    cases hq : G.L a with
    | none => rw [hq] at h; cases h
    | some q => rw [hq] at h; exact (hT.rS q n (hsS q hq) h).1
  have hroot : ∀ G' lo' hi' v', TSame G G' → TI G' kk lo' hi' → TC G' → LF G' kk lo' hi' v' lf → v' = G'.root → (∀ y, v' = some y → G'.S y) → PW (TR H0 F t) G' (self v') c s Q X := by
    intro G' lo' hi' v' b1 b2 b3 b4 b5 b6
    refine hself G' lo' hi' v' b1 b2 b3 b4 ?_ b6 ?_
    · unfold tmD
      rw [if_pos (Or.inl b5)]
      omega
    · intro e
      rw [e] at b5
      exact b2.rootN b5.symm x (by rw [b1.2.2.1]; exact hx)
  unfold s_J1_fixAfterDeletion_J230
  refine TR.kR hsS ?_
  refine TR.cC hC hsR (PW.if_ (fun hb1 => ?_) (fun hb1 => ?_))
  · refine TR.kL hsS ?_
    refine TR.cC hC hsL (PW.if_ (fun hb2 => ?_) (fun hb2 => ?_))
    · refine TR.kS (Or.inl rfl) hC hsS (fun C1 hC1 _ _ => ?_)
      refine TR.kP (by grind) ?_
      simp only [Option.bind_some, hP]
      have h2 := hT.lS
      have h3 := hT.rS
      have h4 := hT.bnd a ha
      have h5 := hT.bnd x hx
      have h6 := hT.gb a ha
      have h7 : hi x - lo x < hi a - lo a ∧ lo a ≤ lo x ∧ hi x ≤ hi a := by grind
      refine hself (wC G C1) lo hi (some a) ⟨rfl, rfl, rfl, rfl, rfl, rfl⟩ (TI_wC hT) hC1 ?_ ?_ (fun y hy => by cases hy; exact ha) (fun e => nomatch e)
      · intro p hp
        obtain ⟨p1, p2, p3, p4⟩ := hf p hp
        have k1 := p4 x rfl
        refine ⟨p1, p2, p3, fun y hy => ?_⟩
        cases hy
        omega
      · unfold tmD
        split
        · omega
        · dsimp only
          omega
    · cases hq : G.L a with
      | none => exact absurd (by rw [hq]; rfl) hb2
      | some q =>
        rw [hq] at hb1 hb2
        exact TR.dB2 hT hC ha hl hq (fun h => by first | exact hb2 h.1 | exact hb2 h.2) hf hroot
  · cases hq : G.L a with
    | none => exact absurd (by rw [hq]; rfl) hb1
    | some q =>
      rw [hq] at hb1
      exact TR.dB2 hT hC ha hl hq (fun h => by first | exact hb1 h.1 | exact hb1 h.2) hf hroot
end TRD
