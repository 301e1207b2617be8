/-! ===== TreeMap, 6: fixAfterDeletion ===== -/
theorem TR.cFixD {β : Type} {K : ZK} {H0 : ZH} {F : Nat → Prop} {t : Nat} {G : TG} {c s : Nat} {Q : β → ZH → Prop} {X : Nat → ZH → Prop} {kk lo hi : Nat → Int} {x : Nat} {lf : Option Nat} {f : Unit → ZP β} (hT : TI G kk lo hi) (hC : TC G) (hx : G.S x) (hf : LF G kk lo hi (some x) lf) (k : ∀ G' lo' hi', TSame G G' → TI G' kk lo' hi' → TC G' → (∀ p, lf = some p → G'.S p ∧ G'.L p = none ∧ G'.R p = none) → PW (TR H0 F t) G' (f ()) c s Q X) : PW (TR H0 F t) G (zcallV (some t) 0 (fun y0 => s_J1_fixAfterDeletion K y0 (some x)) f) c s Q X := by
  refine PW.callV (fun H h => ⟨_, h.1⟩) (PW.call 0 0 (Nat.zero_le _) (Nat.zero_le _) ?_)
  unfold s_J1_fixAfterDeletion s_J1_fixAfterDeletion_L0
  refine PW.loop (n := tmD G lo hi (some x)) (fun n v g c' s' => TSame G g ∧ TC g ∧ ∃ lo hi, TI g kk lo hi ∧ LF g kk lo hi v lf ∧ (∀ y, v = some y → g.S y) ∧ v ≠ none ∧ tmD g lo hi v ≤ n) ⟨TSame.rf, hC, lo, hi, hT, hf, (fun y h => by cases h; exact hx), (fun e => nomatch e), Nat.le_refl _⟩ ?_
  rintro n v g c' s' ⟨hS, hC', lo', hi', hT', hf', hv, hv0, hm⟩ self hself
  cases v with
  | none => exact absurd rfl hv0
  | some y =>
  have hy := hv y rfl
  have hend : ∀ c' s', PW (TR H0 F t) g (s_J1_fixAfterDeletion_J345 K (some y)) c' s' (fun r H' => f r H' (c - 0) (s - 0) Q X) X := by
    intro c' s'
    unfold s_J1_fixAfterDeletion_J345
    refine TR.kS (G := g) (C0 := g.C) (Or.inr rfl) hC' (fun n h => by cases h; exact hy) (fun C1 hC1 _ _ => PW.ret ?_)
    exact k _ lo' hi' (hS.tr ⟨rfl, rfl, rfl, rfl, rfl, rfl⟩) (TI_C hT') hC1 (fun p hp => ⟨(hf' p hp).1, (hf' p hp).2.1, (hf' p hp).2.2.1⟩)
  have hgo : ∀ G2 lo2 hi2 v2, TSame g G2 → TI G2 kk lo2 hi2 → TC G2 → LF G2 kk lo2 hi2 v2 lf → tmD G2 lo2 hi2 v2 < n → (∀ y, v2 = some y → G2.S y) → v2 ≠ none → PW (TR H0 F t) G2 (self v2) c' s' (fun r H' => f r H' (c - 0) (s - 0) Q X) X :=
    fun G2 lo2 hi2 v2 b1 b2 b3 b4 b5 b6 b7 => hself (tmD G2 lo2 hi2 v2) v2 G2 _ _ _ _ b5 ⟨hS.tr b1, b3, lo2, hi2, b2, b4, b6, b7, Nat.le_refl _⟩
  unfold s_J1_fixAfterDeletion_B0
  refine TR.groot (PW.if_ (fun _ => hend _ _) (fun hyr => ?_))
  refine TR.cC (G := g) hC' hv (PW.if_ (fun hyc => ?_) (fun _ => hend _ _))
  have hm1 : 1 + (1001 - (hi' y - lo' y)).toNat ≤ n := by
    unfold tmD at hm
    rw [if_neg (fun h => h.elim hyr (fun h => h hyc))] at hm
    exact hm
  cases hP : g.P y with
  | none => exact absurd (hT'.parN y hy hP).symm hyr
  | some a =>
  obtain ⟨ha, hch⟩ := hT'.par y a hy hP
  refine TR.kP (G := g) (C0 := g.C) (by grind) ?_
  simp only [Option.bind_some, hP]
  refine TR.kL (G := g) (C0 := g.C) (by intro n h; cases h; exact ha) ?_
  simp only [Option.bind_some]
  refine PW.if_ (fun hl => ?_) (fun hnl => ?_)
  · have hl : g.L a = some y := hl.symm
    have hpS : ∀ n, (some a : Option Nat) = some n → g.S n := fun n h => by cases h; exact ha
    refine TR.kP (C0 := g.C) (by grind) ?_
    simp only [Option.bind_some, hP]
    refine TR.kR (C0 := g.C) (by grind) ?_
    simp only [Option.bind_some]
    have hsS : ∀ n, g.R a = some n → g.S n := by intro n h; have := hT'.lS; have := hT'.rS; grind
    refine TR.cC hC' hsS (PW.if_ (fun hr0 => ?_) (fun _ => ?_))
    · cases hq : g.R a with
      | none => rw [hq] at hr0; exact absurd hr0 (by simp [oC])
      | some sb =>
        have hs := hsS sb hq
        refine TR.kS (C0 := g.C) (Or.inr rfl) hC' (by grind) (fun C1 hC1 _ _ => ?_)
        refine TR.kP (by grind) ?_
        simp only [Option.bind_some, hP]
        refine TR.kS (Or.inl rfl) hC1 (by grind) (fun C2 hC2 _ _ => ?_)
        refine TR.kP (by grind) ?_
        simp only [Option.bind_some, hP]
        refine TR.cRotL (G := wC g C2) (TI_wC hT') ha hq (fun G' hR => ?_)
        obtain ⟨a1, a2, a3, a4, a5, a6, a7, a8, a9, a10⟩ := hR
        have hS' : G'.S = g.S := a1.2.2.1
        have h1 := hT'.lS
        have h2 := hT'.rS
        have h3 := hT'.bnd
        have hxa : y ≠ a := by grind
        have hxs : y ≠ sb := by grind
        have ha' : G'.S a := by rw [hS']; exact ha
        have hl' : G'.L a = some y := a8.trans hl
        have hP' : G'.P y = some a := (a3.lS a y ha' hl').2.1
        refine TR.kP (G := G') (C0 := G'.C) (by intro n h; cases h; rw [hS']; exact hy) ?_
        simp only [Option.bind_some, hP']
        refine TR.kR (G := G') (C0 := G'.C) (by intro n h; cases h; exact ha') ?_
        simp only [Option.bind_some]
        refine TR.dA3 (G := G') (C0 := G'.C) (N := n) a3 (fun n hn => by rw [show (wC G' G'.C).C = C2 from a2]; exact hC2 n (by rw [← hS']; exact hn)) ha' hl' ?_ ?_ (fun G2 lo2 hi2 v2 b1 b2 b3 b4 b5 b6 b7 => hgo G2 lo2 hi2 v2 (TSame.tr a1 b1) b2 b3 b4 b5 b6 b7)
        · intro p hp
          obtain ⟨p1, p2, p3, p4⟩ := hf' p hp
          have k1 := p4 y rfl
          have hpa : p ≠ a := by grind
          have hps : p ≠ sb := by grind
          have k2 := a10 p hpa hps
          refine ⟨by rw [hS']; exact p1, k2.1 p2, k2.2.1 p3, fun z hz => ?_⟩
          cases hz
          simp only [pset, if_neg hxa, if_neg hxs]
          exact k1
        · simp only [pset, if_neg hxa, if_neg hxs]
          exact hm1
    · exact TR.dA3 (G := g) (C0 := g.C) (N := n) hT' hC' ha hl hf' hm1 hgo
  · have hl : g.R a = some y := by
      rcases hch with h | h
      · exact absurd h.symm hnl
      · exact h
    have hpS : ∀ n, (some a : Option Nat) = some n → g.S n := fun n h => by cases h; exact ha
    refine TR.kP (C0 := g.C) (by grind) ?_
    simp only [Option.bind_some, hP]
    refine TR.kL (C0 := g.C) (by grind) ?_
    simp only [Option.bind_some]
    have hsS : ∀ n, g.L a = some n → g.S n := by intro n h; have := hT'.lS; have := hT'.rS; grind
    refine TR.cC hC' hsS (PW.if_ (fun hr0 => ?_) (fun _ => ?_))
    · cases hq : g.L a with
      | none => rw [hq] at hr0; exact absurd hr0 (by simp [oC])
      | some sb =>
        have hs := hsS sb hq
        refine TR.kS (C0 := g.C) (Or.inr rfl) hC' (by grind) (fun C1 hC1 _ _ => ?_)
        refine TR.kP (by grind) ?_
        simp only [Option.bind_some, hP]
        refine TR.kS (Or.inl rfl) hC1 (by grind) (fun C2 hC2 _ _ => ?_)
        refine TR.kP (by grind) ?_
        simp only [Option.bind_some, hP]
        refine TR.cRotR (G := wC g C2) (TI_wC hT') ha hq (fun G' hR => ?_)
        obtain ⟨a1, a2, a3, a4, a5, a6, a7, a8, a9, a10⟩ := hR
        have hS' : G'.S = g.S := a1.2.2.1
        have h1 := hT'.lS
        have h2 := hT'.rS
        have h3 := hT'.bnd
        have hxa : y ≠ a := by grind
        have hxs : y ≠ sb := by grind
        have ha' : G'.S a := by rw [hS']; exact ha
        have hl' : G'.R a = some y := a8.trans hl
        have hP' : G'.P y = some a := (a3.rS a y ha' hl').2.1
        refine TR.kP (G := G') (C0 := G'.C) (by intro n h; cases h; rw [hS']; exact hy) ?_
        simp only [Option.bind_some, hP']
        refine TR.kL (G := G') (C0 := G'.C) (by intro n h; cases h; exact ha') ?_
        simp only [Option.bind_some]
        refine TR.dB3 (G := G') (C0 := G'.C) (N := n) a3 (fun n hn => by rw [show (wC G' G'.C).C = C2 from a2]; exact hC2 n (by rw [← hS']; exact hn)) ha' hl' ?_ ?_ (fun G2 lo2 hi2 v2 b1 b2 b3 b4 b5 b6 b7 => hgo G2 lo2 hi2 v2 (TSame.tr a1 b1) b2 b3 b4 b5 b6 b7)
        · intro p hp
          obtain ⟨p1, p2, p3, p4⟩ := hf' p hp
          have k1 := p4 y rfl
          have hpa : p ≠ a := by grind
          have hps : p ≠ sb := by grind
          have k2 := a10 p hpa hps
          refine ⟨by rw [hS']; exact p1, k2.1 p2, k2.2.1 p3, fun z hz => ?_⟩
          cases hz
          simp only [pset, if_neg hxa, if_neg hxs]
          exact k1
        · simp only [pset, if_neg hxa, if_neg hxs]
          exact hm1
    · exact TR.dB3 (G := g) (C0 := g.C) (N := n) hT' hC' ha hl hf' hm1 hgo
