/-! ===== TreeMap, 8: neighbours ===== -/
section TRN
variable {β : Type} {K : ZK} {H0 : ZH} {F : Nat → Prop} {t : Nat} {G : TG} {c s : Nat} {Q : β → ZH → Prop} {X : Nat → ZH → Prop} {kk lo hi : Nat → Int}
/-- the least key above b; none -/
def nxt (G : TG) (kk : Nat → Int) (b : Int) (r : Option Nat) : Prop := (∀ m, r = some m → G.S m ∧ b < kk m ∧ ∀ x, G.S x → b < kk x → kk m ≤ kk x) ∧ (r = none → ∀ x, G.S x → kk x ≤ b)
theorem nxt_left (hT : TI G kk lo hi) {b : Int} {x : Nat} (hx : G.S x) (hl : lo x ≤ b) (hb : b < kk x) (h0 : ∀ m, G.S m → b < kk m → kk m < hi x → lo x < kk m) (hn : ∀ m, G.S m → b < kk m → lo x < kk m) (hL : ∀ m, G.S m → lo x < kk m → kk m < kk x → kk m ≤ b) : nxt G kk b (some x) := by
  refine ⟨fun m h => ?_, fun h => nomatch h⟩
  cases h
  refine ⟨hx, hb, fun y hy hby => ?_⟩
  by_cases h : kk y < kk x
  · have := hL y hy (hn y hy hby) h
    omega
  · omega
/-- down to the left: all above b lies not below x's span -/
theorem TR.pFirst {b : Int} {self : Option Nat → ZP (Option Nat)} (body : (Option Nat → ZP (Option Nat)) → Option Nat → ZP (Option Nat)) (hbody : body = fun self x1 => zgetR x1 12 2 fun v2 => zif (v2 = none) (zret x1) (zgetR x1 12 2 fun v3 => self v3)) {x : Nat} {Q : Option Nat → ZH → Prop} (hT : TI G kk lo hi) (hx : G.S x) (hlo : lo x = b) (k : ∀ r, nxt G kk b r → (∃ m, r = some m ∧ G.L m = none) → ∀ H, TR H0 F t G H → Q r H) : PW (TR H0 F t) G (zloop body (some x)) c s Q X := by
  subst hbody
  refine PW.loop (n := (hi x - lo x).toNat) (fun n v g c' s' => g = G ∧ ∃ y, v = some y ∧ G.S y ∧ lo y = b ∧ (hi y - lo y).toNat ≤ n) ⟨rfl, x, rfl, hx, hlo, Nat.le_refl _⟩ ?_
  rintro n v g c' s' ⟨rfl, y, rfl, hy, hlo', hn⟩ self hself
  have hb := hT.bnd y hy
  refine TR.gL hy ?_
  cases hl : g.L y with
  | none =>
    refine PW.if_ (fun _ => PW.ret (k (some y) ?_ ⟨y, rfl, hl⟩)) (fun h => absurd rfl h)
    refine ⟨fun m h => ?_, fun h => nomatch h⟩
    cases h
    refine ⟨hy, by omega, fun z hz hbz => ?_⟩
    by_cases h : kk z < kk y
    · exact (hT.lN y z hy hl hz (by omega) h).elim
    · omega
  | some q =>
    have h1 := hT.lS y q hy hl
    have h2 := hT.bnd q h1.1
    refine PW.if_ (fun h => nomatch h) (fun _ => TR.gL hy ?_)
    rw [hl]
    exact hself _ (some q) g c' s' _ _ (by omega) ⟨rfl, q, rfl, h1.1, by omega, Nat.le_refl _⟩
/-- up while from the right -/
theorem TR.pUp {b : Int} (body : (Option Nat × Option Nat → ZP (Option Nat)) → Option Nat × Option Nat → ZP (Option Nat)) (hbody : body = fun self v => zif (v.1 = none) (zret v.1) (zgetR v.1 12 3 fun v3 => zif (v.2 = v3) (zgetR v.1 12 4 fun v4 => self (v4, v.1)) (zret v.1))) {x : Nat} {Q : Option Nat → ZH → Prop} (hT : TI G kk lo hi) (hx : G.S x) (hbx : b < hi x) (hno : ∀ m, G.S m → b < kk m → kk m < hi x → False) (k : ∀ r, nxt G kk b r → ∀ H, TR H0 F t G H → Q r H) : PW (TR H0 F t) G (zloop body (G.P x, some x)) c s Q X := by
  subst hbody
  refine PW.loop (n := (1001 - (hi x - lo x)).toNat) (fun n v g c' s' => g = G ∧ ∃ y, v = (G.P y, some y) ∧ G.S y ∧ b < hi y ∧ (∀ m, G.S m → b < kk m → kk m < hi y → False) ∧ (1001 - (hi y - lo y)).toNat ≤ n) ⟨rfl, x, rfl, hx, hbx, hno, Nat.le_refl _⟩ ?_
  rintro n v g c' s' ⟨rfl, y, rfl, hy, hby, hno', hn⟩ self hself
  have hb := hT.bnd y hy
  dsimp only
  cases hp : g.P y with
  | none =>
    refine PW.if_ (fun _ => PW.ret (k none ⟨fun m h => (nomatch h), fun _ z hz => ?_⟩)) (fun h => absurd rfl h)
    have h1 := hT.rootS y (hT.parN y hy hp)
    have h2 := hT.gb z hz
    have h3 := hT.bnd z hz
    by_cases h : b < kk z
    · exact (hno' z hz h (by omega)).elim
    · omega
  | some q =>
    obtain ⟨hq, hch⟩ := hT.par y q hy hp
    have hbq := hT.bnd q hq
    have hgq := hT.gb q hq
    refine PW.if_ (fun h => nomatch h) (fun _ => TR.gR hq (PW.if_ (fun hr => ?_) (fun hr => ?_)))
    · have h1 := hT.rS q y hq hr.symm
      refine TR.gP hq ?_
      refine hself (1001 - (hi q - lo q)).toNat (g.P q, some q) g c' s' _ _ ?_ ⟨rfl, q, rfl, hq, by omega, fun m hm h2 h3 => hno' m hm h2 (by omega), Nat.le_refl _⟩
      omega
    · have hl : g.L q = some y := hch.resolve_right (fun e => hr e.symm)
      have h1 := hT.lS q y hq hl
      refine PW.ret (k (some q) ⟨fun m h => ?_, fun h => nomatch h⟩)
      cases h
      refine ⟨hq, by omega, fun z hz hbz => ?_⟩
      by_cases h : kk z < kk q
      · exact (hno' z hz hbz (by omega)).elim
      · omega
theorem TR.cSucc {n : Nat} {f : Option Nat → ZP β} (hT : TI G kk lo hi) (hn : G.S n) (k : ∀ r, nxt G kk (kk n) r → (G.R n ≠ none → ∃ m, r = some m ∧ G.L m = none) → PW (TR H0 F t) G (f r) c s Q X) : PW (TR H0 F t) G (zcall (s_J1_successor K (some n)) f) c s Q X := by
  refine PW.call 0 0 (Nat.zero_le _) (Nat.zero_le _) ?_
  unfold s_J1_successor
  have hb := hT.bnd n hn
  refine PW.if_ (fun h => nomatch h) (fun _ => TR.gR hn ?_)
  cases hr : G.R n with
  | none =>
    refine PW.if_ (fun _ => TR.gP hn ?_) (fun h => absurd rfl h)
    unfold s_J1_successor_L42
    exact TR.pUp (b := kk n) _ rfl hT hn hb.2 (fun m hm h1 h2 => hT.rN n m hn hr hm h1 h2) (fun r hr' H hH => k r hr' (fun e => absurd hr e) H hH)
  | some q =>
    have h1 := hT.rS n q hn hr
    refine PW.if_ (fun h => nomatch h) (fun _ => TR.gR hn ?_)
    rw [hr]
    unfold s_J1_successor_L18
    exact TR.pFirst (self := fun _ => zbad) (b := kk n) _ rfl hT h1.1 h1.2.2.1 (fun r hr' hl H hH => k r hr' (fun _ => hl) H hH)
theorem TR.cFirst {f : Option Nat → ZP β} (hT : TI G kk lo hi) (k : ∀ r, nxt G kk (-1) r → PW (TR H0 F t) G (f r) c s Q X) : PW (TR H0 F t) G (zcallV (some t) 0 (fun y0 => s_J1_getFirstEntry K y0) f) c s Q X := by
  refine PW.callV (fun H h => ⟨_, h.1⟩) (PW.call 0 0 (Nat.zero_le _) (Nat.zero_le _) ?_)
  unfold s_J1_getFirstEntry
  refine TR.groot ?_
  cases hr : G.root with
  | none =>
    exact PW.if_ (fun _ => PW.ret (k none ⟨fun m h => (nomatch h), fun _ z hz => absurd hz (hT.rootN hr z)⟩)) (fun h => absurd rfl h)
  | some q =>
    have h1 := hT.rootS q hr
    refine PW.if_ (fun h => nomatch h) (fun _ => ?_)
    unfold s_J1_getFirstEntry_L9
    exact TR.pFirst (self := fun _ => zbad) (b := -1) _ rfl hT h1.1 h1.2.2.1 (fun r hr _ H hH => k r hr H hH)
theorem TR.cLast {f : Option Nat → ZP β} (hT : TI G kk lo hi) (k : ∀ r, (∀ m, r = some m → G.S m ∧ ∀ x, G.S x → kk x ≤ kk m) → (r = none → ∀ x, ¬ G.S x) → PW (TR H0 F t) G (f r) c s Q X) : PW (TR H0 F t) G (zcallV (some t) 0 (fun y0 => s_J1_getLastEntry K y0) f) c s Q X := by
  refine PW.callV (fun H h => ⟨_, h.1⟩) (PW.call 0 0 (Nat.zero_le _) (Nat.zero_le _) ?_)
  unfold s_J1_getLastEntry
  refine TR.groot ?_
  cases hr : G.root with
  | none =>
    exact PW.if_ (fun _ => PW.ret (k none (fun m h => (nomatch h)) (fun _ z hz => absurd hz (hT.rootN hr z)))) (fun h => absurd rfl h)
  | some q =>
    have h1 := hT.rootS q hr
    refine PW.if_ (fun h => nomatch h) (fun _ => ?_)
    unfold s_J1_getLastEntry_L9
    refine PW.loop (n := (hi q - lo q).toNat) (fun n v g c' s' => g = G ∧ ∃ y, v = some y ∧ G.S y ∧ hi y = 1000 ∧ (hi y - lo y).toNat ≤ n) ⟨rfl, q, rfl, h1.1, h1.2.2.2, Nat.le_refl _⟩ ?_
    rintro n v g c' s' ⟨rfl, y, rfl, hy, hhi, hn⟩ self hself
    unfold s_J1_getLastEntry_B9
    have hb := hT.bnd y hy
    refine TR.gR hy ?_
    cases hl : g.R y with
    | none =>
      refine PW.if_ (fun _ => PW.ret (k (some y) (fun m h => ?_) (fun e => nomatch e))) (fun h => absurd rfl h)
      cases h
      refine ⟨hy, fun z hz => ?_⟩
      have h3 := hT.gb z hz
      have h4 := hT.bnd z hz
      by_cases h : kk y < kk z
      · exact (hT.rN y z hy hl hz h (by omega)).elim
      · omega
    | some p =>
      have h2 := hT.rS y p hy hl
      have h3 := hT.bnd p h2.1
      refine PW.if_ (fun h => nomatch h) (fun _ => TR.gR hy ?_)
      rw [hl]
      exact hself _ (some p) g c' s' _ _ (by omega) ⟨rfl, p, rfl, h2.1, by omega, Nat.le_refl _⟩
end TRN
