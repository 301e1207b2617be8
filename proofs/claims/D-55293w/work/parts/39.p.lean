/-! ===== TreeMap, 10: deleteEntry ===== -/
section TRDEL
variable {β : Type} {K : ZK} {H0 : ZH} {F : Nat → Prop} {t : Nat} {G : TG} {c s : Nat} {X : Nat → ZH → Prop} {kk lo hi : Nat → Int}
theorem TR.drop {m : ZP β} {Q : β → ZH → Prop} {S' : Nat → Prop} (h : ∀ n, S' n → G.S n) (k : PW (TR H0 F t) { G with S := S' } m c s Q X) : PW (TR H0 F t) G m c s Q X :=
  PW.weak (g' := { G with S := S' }) (fun H hR => ⟨hR.1, fun n hn => hR.2.1 n (h n hn), hR.2.2.1, hR.2.2.2.1, fun n hn => hR.2.2.2.2.1 n (h n hn), fun n hn => hR.2.2.2.2.2 n (h n hn)⟩) k
/-- p has gone -/
def TGone (G : TG) (p : Nat) (G' : TG) : Prop := G'.key = G.key ∧ G'.val = G.val ∧ (∀ n, G'.S n ↔ G.S n ∧ n ≠ p) ∧ G'.vw = G.vw ∧ G'.sz = G.sz ∧ G'.md = G.md
theorem TR.d192 {p q : Nat} {Q : Unit → ZH → Prop} (hT : TI G kk lo hi) (hp : G.S p) (hL : G.L p = none) (hR : G.R p = none) (hP : G.P p = some q) (k : ∀ G', TI G' kk lo hi → G'.C = G.C → TGone G p G' → ∀ H, TR H0 F t G' H → Q () H) : PW (TR H0 F t) G (s_J1_deleteEntry_J192 K (some p)) c s Q X := by
  unfold s_J1_deleteEntry_J192
  obtain ⟨hq, hch⟩ := hT.par p q hp hP
  refine TR.gP hp ?_
  rw [hP]
  refine PW.if_ (fun h => nomatch h) (fun _ => TR.gP hp ?_)
  rw [hP]
  refine TR.gL hq (PW.if_ (fun hl => ?_) (fun hl => ?_))
  · refine TR.gP hp ?_
    rw [hP]
    refine TR.pL hq ?_
    unfold s_J1_deleteEntry_J240
    refine TR.pP hp (TR.drop (S' := fun n => G.S n ∧ n ≠ p) (fun n h => h.1) (PW.ret (k _ ?_ rfl ⟨rfl, rfl, fun n => Iff.rfl, rfl, rfl, rfl⟩)))
    have x1 := hT.noLo hp hR
    have x2 := hT.noHi hp hL
    obtain ⟨h1, h2, h3, h4, h5, h6, h7, h8, h9, h10, h11, h12, h13, h14, h15, h16⟩ := hT
    constructor <;> simp only [pset] <;> grind
  · have hr : G.R q = some p := hch.resolve_left (fun e => hl e.symm)
    refine TR.gP hp ?_
    rw [hP]
    refine TR.gR hq (PW.if_ (fun _ => TR.gP hp ?_) (fun h => absurd hr.symm h))
    rw [hP]
    refine TR.pR hq ?_
    unfold s_J1_deleteEntry_J240
    refine TR.pP hp (TR.drop (S' := fun n => G.S n ∧ n ≠ p) (fun n h => h.1) (PW.ret (k _ ?_ rfl ⟨rfl, rfl, fun n => Iff.rfl, rfl, rfl, rfl⟩)))
    have x1 := hT.noLo hp hR
    have x2 := hT.noHi hp hL
    obtain ⟨h1, h2, h3, h4, h5, h6, h7, h8, h9, h10, h11, h12, h13, h14, h15, h16⟩ := hT
    constructor <;> simp only [pset] <;> grind
/-- what is left to do once p's place is taken by its child -/
theorem TR.d133 {p d : Nat} {G0 : TG} {Q : Unit → ZH → Prop} {lo' hi' : Nat → Int} (hp : G.S p) (hT : TI { G with S := fun n => G.S n ∧ n ≠ p, P := pset G.P p none, R := pset G.R p none, L := pset G.L p none } kk lo' hi') (hC : TC G) (hd : G.S d ∧ d ≠ p) (hG : TSame G0 G) (k : ∀ G' lo' hi', TI G' kk lo' hi' → TC G' → TGone G0 p G' → ∀ H, TR H0 F t G' H → Q () H) : PW (TR H0 F t) G (s_J1_deleteEntry_J133 K t (some p) (some d)) c s Q X := by
  unfold s_J1_deleteEntry_J133
  have hS : ∀ n, G.S n ∧ n ≠ p ↔ G0.S n ∧ n ≠ p := fun n => by rw [hG.2.2.1]
  refine TR.pP hp (TR.pR hp (TR.pL hp (TR.gC hp (PW.if_ (fun _ => ?_) (fun _ => ?_)))))
  · refine TR.drop (S' := fun n => G.S n ∧ n ≠ p) (fun n h => h.1) ?_
    refine TR.cFixD (lf := none) hT (fun n hn => hC n hn.1) hd (fun q hq => nomatch hq) (fun G' lo2 hi2 b1 b2 b3 _ => PW.ret (k G' lo2 hi2 b2 b3 ⟨b1.1.trans hG.1, b1.2.1.trans hG.2.1, fun n => ?_, b1.2.2.2.1.trans hG.2.2.2.1, b1.2.2.2.2.1.trans hG.2.2.2.2.1, b1.2.2.2.2.2.trans hG.2.2.2.2.2⟩))
    rw [b1.2.2.1]
    exact hS n
  · exact TR.drop (S' := fun n => G.S n ∧ n ≠ p) (fun n h => h.1) (PW.ret (k _ lo' hi' hT (fun n hn => hC n hn.1) ⟨hG.1, hG.2.1, hS, hG.2.2.2.1, hG.2.2.2.2.1, hG.2.2.2.2.2⟩))
theorem TR.d57 {p : Nat} {Q : Unit → ZH → Prop} (hT : TI G kk lo hi) (hC : TC G) (hp : G.S p) (h0 : G.L p = none ∨ G.R p = none) (k : ∀ G' lo' hi', TI G' kk lo' hi' → TC G' → TGone G p G' → ∀ H, TR H0 F t G' H → Q () H) : PW (TR H0 F t) G (s_J1_deleteEntry_J57 K t (some p)) c s Q X := by
  -- a child takes p's place
  have hch : ∀ d, (G.L p = some d ∧ G.R p = none ∨ G.R p = some d ∧ G.L p = none) → PW (TR H0 F t) G (s_J1_deleteEntry_J75 K t (some p) (some d)) c s Q X := by
    intro d hd
    have hdS : G.S d ∧ d ≠ p := by
      obtain ⟨h1, h2, h3, h4, h5, h6, h7, h8, h9, h10, h11, h12, h13, h14, h15, h16⟩ := hT
      grind
    unfold s_J1_deleteEntry_J75
    refine PW.if_ (fun h => nomatch h) (fun _ => TR.gP hp (TR.pP hdS.1 (TR.gP hp ?_)))
    have hpd : p ≠ d := fun e => hdS.2 e.symm
    simp only [pset, if_neg hpd]
    cases hP : G.P p with
    | none =>
      refine PW.if_ (fun _ => TR.proot ?_) (fun h => absurd rfl h)
      rcases hd with ⟨e1, e2⟩ | ⟨e1, e2⟩
      · refine TR.d133 (G0 := G) (lo' := lo) (hi' := fun n => if hi n = kk p then hi p else hi n) hp ?_ hC hdS ⟨rfl, rfl, rfl, rfl, rfl, rfl⟩ k
        have x1 := hT.noLo hp e2
        obtain ⟨h1, h2, h3, h4, h5, h6, h7, h8, h9, h10, h11, h12, h13, h14, h15, h16⟩ := hT
        constructor <;> simp only [pset] <;> grind
      · refine TR.d133 (G0 := G) (hi' := hi) (lo' := fun n => if lo n = kk p then lo p else lo n) hp ?_ hC hdS ⟨rfl, rfl, rfl, rfl, rfl, rfl⟩ k
        have x2 := hT.noHi hp e2
        obtain ⟨h1, h2, h3, h4, h5, h6, h7, h8, h9, h10, h11, h12, h13, h14, h15, h16⟩ := hT
        constructor <;> simp only [pset] <;> grind
    | some q =>
      obtain ⟨hq, hqc⟩ := hT.par p q hp hP
      refine PW.if_ (fun h => nomatch h) (fun _ => TR.gP hp ?_)
      simp only [pset, if_neg hpd, hP]
      refine TR.gL hq (PW.if_ (fun hl => ?_) (fun hl => ?_))
      · refine TR.gP hp ?_
        simp only [pset, if_neg hpd, hP]
        refine TR.pL hq ?_
        rcases hd with ⟨e1, e2⟩ | ⟨e1, e2⟩
        · refine TR.d133 (G0 := G) (lo' := lo) (hi' := fun n => if hi n = kk p then hi p else hi n) hp ?_ hC hdS ⟨rfl, rfl, rfl, rfl, rfl, rfl⟩ k
          have x1 := hT.noLo hp e2
          obtain ⟨h1, h2, h3, h4, h5, h6, h7, h8, h9, h10, h11, h12, h13, h14, h15, h16⟩ := hT
          constructor <;> simp only [pset] <;> grind
        · refine TR.d133 (G0 := G) (hi' := hi) (lo' := fun n => if lo n = kk p then lo p else lo n) hp ?_ hC hdS ⟨rfl, rfl, rfl, rfl, rfl, rfl⟩ k
          have x2 := hT.noHi hp e2
          obtain ⟨h1, h2, h3, h4, h5, h6, h7, h8, h9, h10, h11, h12, h13, h14, h15, h16⟩ := hT
          constructor <;> simp only [pset] <;> grind
      · have hr : G.R q = some p := hqc.resolve_left (fun e => hl e.symm)
        refine TR.gP hp ?_
        simp only [pset, if_neg hpd, hP]
        refine TR.pR hq ?_
        rcases hd with ⟨e1, e2⟩ | ⟨e1, e2⟩
        · refine TR.d133 (G0 := G) (lo' := lo) (hi' := fun n => if hi n = kk p then hi p else hi n) hp ?_ hC hdS ⟨rfl, rfl, rfl, rfl, rfl, rfl⟩ k
          have x1 := hT.noLo hp e2
          obtain ⟨h1, h2, h3, h4, h5, h6, h7, h8, h9, h10, h11, h12, h13, h14, h15, h16⟩ := hT
          constructor <;> simp only [pset] <;> grind
        · refine TR.d133 (G0 := G) (hi' := hi) (lo' := fun n => if lo n = kk p then lo p else lo n) hp ?_ hC hdS ⟨rfl, rfl, rfl, rfl, rfl, rfl⟩ k
          have x2 := hT.noHi hp e2
          obtain ⟨h1, h2, h3, h4, h5, h6, h7, h8, h9, h10, h11, h12, h13, h14, h15, h16⟩ := hT
          constructor <;> simp only [pset] <;> grind
  unfold s_J1_deleteEntry_J57
  refine TR.gL hp ?_
  cases hl : G.L p with
  | some d =>
    refine PW.if_ (fun h => nomatch h) (fun _ => TR.gL hp ?_)
    rw [hl]
    exact hch d (Or.inl ⟨hl, h0.resolve_left (by rw [hl]; exact fun e => nomatch e)⟩)
  | none =>
    refine PW.if_ (fun _ => TR.gR hp ?_) (fun h => absurd rfl h)
    cases hr : G.R p with
    | some d => exact hch d (Or.inr ⟨hr, hl⟩)
    | none =>
      unfold s_J1_deleteEntry_J75
      refine PW.if_ (fun _ => TR.gP hp ?_) (fun h => absurd rfl h)
      cases hP : G.P p with
      | none =>
        refine PW.if_ (fun _ => TR.proot (TR.drop (S' := fun n => G.S n ∧ n ≠ p) (fun n h => h.1) (PW.ret (k _ lo hi ?_ (fun n hn => hC n hn.1) ⟨rfl, rfl, fun n => Iff.rfl, rfl, rfl, rfl⟩)))) (fun h => absurd rfl h)
        have x1 := hT.noLo hp hr
        have x2 := hT.noHi hp hl
        obtain ⟨h1, h2, h3, h4, h5, h6, h7, h8, h9, h10, h11, h12, h13, h14, h15, h16⟩ := hT
        constructor <;> simp only [] <;> grind
      | some q =>
        refine PW.if_ (fun h => nomatch h) (fun _ => TR.gC hp (PW.if_ (fun _ => ?_) (fun _ => ?_)))
        · refine TR.cFixD (lf := some p) hT hC hp (fun p' h => by cases h; exact ⟨hp, hl, hr, fun y h => by cases h; exact hT.bnd p hp⟩) (fun G' lo2 hi2 b1 b2 b3 b4 => ?_)
          obtain ⟨c1, c2, c3⟩ := b4 p rfl
          obtain ⟨hq, -⟩ := hT.par p q hp hP
          have hqp : q ≠ p := by
            obtain ⟨h1, h2, h3, h4, h5, h6, h7, h8, h9, h10, h11, h12, h13, h14, h15, h16⟩ := hT
            grind
          cases hP' : G'.P p with
          | none =>
            exfalso
            have hq' : G'.S q := by rw [b1.2.2.1]; exact hq
            have h1 := b2.rootS p (b2.parN p c1 hP')
            have h2 := b2.lN p q c1 c2 hq'
            have h3 := b2.rN p q c1 c3 hq'
            have h4 := b2.inj p q c1 hq'
            have h5 := b2.bnd q hq'
            have h6 := b2.gb q hq'
            have h7 : kk p ≠ kk q := fun e => hqp (h4 e).symm
            rcases Int.lt_or_gt_of_ne h7 with e | e
            · exact h3 e (by omega)
            · exact h2 (by omega) e
          | some q' =>
            refine TR.d192 b2 c1 c2 c3 hP' (fun G2 d1 d2 d3 => k G2 lo2 hi2 d1 (fun n hn => ?_) ⟨d3.1.trans b1.1, d3.2.1.trans b1.2.1, fun n => ?_, d3.2.2.2.1.trans b1.2.2.2.1, d3.2.2.2.2.1.trans b1.2.2.2.2.1, d3.2.2.2.2.2.trans b1.2.2.2.2.2⟩)
            · rw [d2]; exact b3 n ((d3.2.2.1 n).mp hn).1
            · rw [d3.2.2.1 n, b1.2.2.1]
        · exact TR.d192 hT hp hl hr hP (fun G2 d1 d2 d3 => k G2 lo hi d1 (fun n hn => by rw [d2]; exact hC n ((d3.2.2.1 n).mp hn).1) d3)
end TRDEL
