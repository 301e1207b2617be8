/-! ===== TreeMap, 3: the small methods, rotations ===== -/
def oC (G : TG) (x : Option Nat) : Int32 := match x with
  | none => 1
  | some n => G.C n
def oSC (G : TG) (x : Option Nat) (v : Int32) : TG := match x with
  | none => G
  | some n => { G with C := pset G.C n v }
def TC (G : TG) : Prop := ∀ n, G.S n → G.C n = 0 ∨ G.C n = 1
section TRC
variable {β : Type} {K : ZK} {H0 : ZH} {F : Nat → Prop} {t : Nat} {G : TG} {c s : Nat} {Q : β → ZH → Prop} {X : Nat → ZH → Prop}
theorem TR.cP {x : Option Nat} {f : Option Nat → ZP β} (hx : ∀ n, x = some n → G.S n) (k : PW (TR H0 F t) G (f (x.bind G.P)) c s Q X) : PW (TR H0 F t) G (zcall (s_J1_parentOf K x) f) c s Q X := by
  refine PW.call 0 0 (Nat.zero_le _) (Nat.zero_le _) ?_
  unfold s_J1_parentOf
  cases x with
  | none => exact PW.if_ (fun _ => PW.ret k) (fun h => absurd rfl h)
  | some n => exact PW.if_ (fun h => nomatch h) (fun _ => TR.gP (hx n rfl) (PW.ret k))
theorem TR.cL {x : Option Nat} {f : Option Nat → ZP β} (hx : ∀ n, x = some n → G.S n) (k : PW (TR H0 F t) G (f (x.bind G.L)) c s Q X) : PW (TR H0 F t) G (zcall (s_J1_leftOf K x) f) c s Q X := by
  refine PW.call 0 0 (Nat.zero_le _) (Nat.zero_le _) ?_
  unfold s_J1_leftOf
  cases x with
  | none => exact PW.if_ (fun _ => PW.ret k) (fun h => absurd rfl h)
  | some n => exact PW.if_ (fun h => nomatch h) (fun _ => TR.gL (hx n rfl) (PW.ret k))
theorem TR.cR {x : Option Nat} {f : Option Nat → ZP β} (hx : ∀ n, x = some n → G.S n) (k : PW (TR H0 F t) G (f (x.bind G.R)) c s Q X) : PW (TR H0 F t) G (zcall (s_J1_rightOf K x) f) c s Q X := by
  refine PW.call 0 0 (Nat.zero_le _) (Nat.zero_le _) ?_
  unfold s_J1_rightOf
  cases x with
  | none => exact PW.if_ (fun _ => PW.ret k) (fun h => absurd rfl h)
  | some n => exact PW.if_ (fun h => nomatch h) (fun _ => TR.gR (hx n rfl) (PW.ret k))
theorem TR.cC {x : Option Nat} {f : Int32 → ZP β} (hc : TC G) (hx : ∀ n, x = some n → G.S n) (k : PW (TR H0 F t) G (f (oC G x)) c s Q X) : PW (TR H0 F t) G (zcall (s_J1_colorOf K x) f) c s Q X := by
  refine PW.call 0 0 (Nat.zero_le _) (Nat.zero_le _) ?_
  unfold s_J1_colorOf
  cases x with
  | none => exact PW.if_ (fun _ => PW.ret k) (fun h => absurd rfl h)
  | some n =>
    refine PW.if_ (fun h => nomatch h) (fun _ => TR.gC (hx n rfl) (PW.asg ?_ (PW.ret k)))
    rcases hc n (hx n rfl) with h | h <;> rw [h] <;> decide
theorem TR.cS {x : Option Nat} {v : Int32} {f : Unit → ZP β} (hv : v = 0 ∨ v = 1) (hx : ∀ n, x = some n → G.S n) (k : PW (TR H0 F t) (oSC G x v) (f ()) c s Q X) : PW (TR H0 F t) G (zcall (s_J1_setColor K x v) f) c s Q X := by
  refine PW.call 0 0 (Nat.zero_le _) (Nat.zero_le _) ?_
  unfold s_J1_setColor
  cases x with
  | none => exact PW.if_ (fun _ => PW.ret k) (fun h => absurd rfl h)
  | some n => exact PW.if_ (fun h => nomatch h) (fun _ => TR.pC (hx n rfl) hv (PW.ret k))
/-- what a rotation to the left at p leaves (r: its right child) -/
def TRotL (G : TG) (kk lo hi : Nat → Int) (p r : Nat) (G' : TG) : Prop := TSame G G' ∧ G'.C = G.C ∧ TI G' kk (pset lo r (lo p)) (pset hi p (kk r)) ∧ G'.P p = some r ∧ G'.P r = G.P p ∧ G'.L r = some p ∧ G'.R p = G.L r ∧ G'.L p = G.L p ∧ G'.R r = G.R r ∧ (∀ n, n ≠ p → n ≠ r → (G.L n = none → G'.L n = none) ∧ (G.R n = none → G'.R n = none) ∧ (G.L r ≠ some n → G'.P n = G.P n))
def TRotR (G : TG) (kk lo hi : Nat → Int) (p r : Nat) (G' : TG) : Prop := TSame G G' ∧ G'.C = G.C ∧ TI G' kk (pset lo p (kk r)) (pset hi r (hi p)) ∧ G'.P p = some r ∧ G'.P r = G.P p ∧ G'.R r = some p ∧ G'.L p = G.R r ∧ G'.R p = G.R p ∧ G'.L r = G.L r ∧ (∀ n, n ≠ p → n ≠ r → (G.L n = none → G'.L n = none) ∧ (G.R n = none → G'.R n = none) ∧ (G.R r ≠ some n → G'.P n = G.P n))
theorem TR.cRotL {kk lo hi : Nat → Int} {p r : Nat} {f : Unit → ZP β} (hT : TI G kk lo hi) (hp : G.S p) (hr : G.R p = some r) (k : ∀ G', TRotL G kk lo hi p r G' → PW (TR H0 F t) G' (f ()) c s Q X) : PW (TR H0 F t) G (zcallV (some t) 0 (fun y0 => s_J1_rotateLeft K y0 (some p)) f) c s Q X := by
  refine PW.callV (fun H h => ⟨_, h.1⟩) (PW.call 0 0 (Nat.zero_le _) (Nat.zero_le _) ?_)
  obtain ⟨h1, h2, h3, h4, h5, h6, h7, h8, h9, h10, h11, h12, h13, h14, h15, h16⟩ := hT
  obtain ⟨r1, r2, r3, r4⟩ := h7 p r hp hr
  have hpr : p ≠ r := by grind
  have hrp : r ≠ p := fun e => hpr e.symm
  unfold s_J1_rotateLeft
  refine PW.if_ (fun h => nomatch h) (fun _ => ?_)
  refine TR.gR hp ?_
  rw [hr]
  refine TR.gL r1 (TR.pR hp (TR.gL r1 ?_))
  simp only []
  cases hl : G.L r with
  | none =>
    refine PW.if_ (fun _ => ?_) (fun h => absurd rfl h)
    unfold s_J1_rotateLeft_J32
    refine TR.gP hp (TR.pP r1 (TR.gP hp ?_))
    simp only [pset, if_neg hpr]
    cases hP : G.P p with
    | none =>
      refine PW.if_ (fun _ => ?_) (fun h => absurd rfl h)
      unfold s_J1_rotateLeft_J85
      refine TR.proot (TR.pL r1 (TR.pP hp (PW.ret (k _ ⟨⟨rfl, rfl, rfl, rfl, rfl, rfl⟩, rfl, ?_, ?_⟩))))
      · constructor <;> simp only [pset] <;> grind
      · simp only [pset]; grind
    | some pp =>
      refine PW.if_ (fun h => nomatch h) (fun _ => ?_)
      have hpS : G.S pp := by grind
      refine TR.gP hp ?_
      simp only [pset, if_neg hpr, hP]
      refine TR.gL hpS ?_
      refine PW.if_ (fun hc => ?_) (fun hc => ?_)
      · refine TR.gP hp ?_
        simp only [pset, if_neg hpr, hP]
        unfold s_J1_rotateLeft_J85
        refine TR.pL hpS (TR.pL r1 (TR.pP hp (PW.ret (k _ ⟨⟨rfl, rfl, rfl, rfl, rfl, rfl⟩, rfl, ?_, ?_⟩))))
        · constructor <;> simp only [pset] <;> grind
        · simp only [pset]; grind
      · refine TR.gP hp ?_
        simp only [pset, if_neg hpr, hP]
        unfold s_J1_rotateLeft_J85
        refine TR.pR hpS (TR.pL r1 (TR.pP hp (PW.ret (k _ ⟨⟨rfl, rfl, rfl, rfl, rfl, rfl⟩, rfl, ?_, ?_⟩))))
        · constructor <;> simp only [pset] <;> grind
        · simp only [pset]; grind
  | some q =>
    have hqS : G.S q := by grind
    have hqp : q ≠ p := by grind
    have hqr : q ≠ r := by grind
    have hpq : p ≠ q := fun e => hqp e.symm
    have hrq : r ≠ q := fun e => hqr e.symm
    refine PW.if_ (fun h => nomatch h) (fun _ => ?_)
    refine TR.gL r1 ?_
    simp only [pset, if_neg hrp, hl]
    refine TR.pP hqS ?_
    unfold s_J1_rotateLeft_J32
    refine TR.gP hp (TR.pP r1 (TR.gP hp ?_))
    simp only [pset, if_neg hpr, if_neg hpq]
    cases hP : G.P p with
    | none =>
      refine PW.if_ (fun _ => ?_) (fun h => absurd rfl h)
      unfold s_J1_rotateLeft_J85
      refine TR.proot (TR.pL r1 (TR.pP hp (PW.ret (k _ ⟨⟨rfl, rfl, rfl, rfl, rfl, rfl⟩, rfl, ?_, ?_⟩))))
      · constructor <;> simp only [pset] <;> grind
      · simp only [pset]; grind
    | some pp =>
      refine PW.if_ (fun h => nomatch h) (fun _ => ?_)
      have hpS : G.S pp := by grind
      refine TR.gP hp ?_
      simp only [pset, if_neg hpr, if_neg hpq, hP]
      refine TR.gL hpS ?_
      refine PW.if_ (fun hc => ?_) (fun hc => ?_)
      · refine TR.gP hp ?_
        simp only [pset, if_neg hpr, if_neg hpq, hP]
        unfold s_J1_rotateLeft_J85
        refine TR.pL hpS (TR.pL r1 (TR.pP hp (PW.ret (k _ ⟨⟨rfl, rfl, rfl, rfl, rfl, rfl⟩, rfl, ?_, ?_⟩))))
        · constructor <;> simp only [pset] <;> grind
        · simp only [pset]; grind
      · refine TR.gP hp ?_
        simp only [pset, if_neg hpr, if_neg hpq, hP]
        unfold s_J1_rotateLeft_J85
        refine TR.pR hpS (TR.pL r1 (TR.pP hp (PW.ret (k _ ⟨⟨rfl, rfl, rfl, rfl, rfl, rfl⟩, rfl, ?_, ?_⟩))))
        · constructor <;> simp only [pset] <;> grind
        · simp only [pset]; grind
theorem TR.cRotR {kk lo hi : Nat → Int} {p r : Nat} {f : Unit → ZP β} (hT : TI G kk lo hi) (hp : G.S p) (hr : G.L p = some r) (k : ∀ G', TRotR G kk lo hi p r G' → PW (TR H0 F t) G' (f ()) c s Q X) : PW (TR H0 F t) G (zcallV (some t) 0 (fun y0 => s_J1_rotateRight K y0 (some p)) f) c s Q X := by
  refine PW.callV (fun H h => ⟨_, h.1⟩) (PW.call 0 0 (Nat.zero_le _) (Nat.zero_le _) ?_)
  obtain ⟨h1, h2, h3, h4, h5, h6, h7, h8, h9, h10, h11, h12, h13, h14, h15, h16⟩ := hT
  obtain ⟨r1, r2, r3, r4⟩ := h5 p r hp hr
  have hpr : p ≠ r := by grind
  have hrp : r ≠ p := fun e => hpr e.symm
  unfold s_J1_rotateRight
  refine PW.if_ (fun h => nomatch h) (fun _ => ?_)
  refine TR.gL hp ?_
  rw [hr]
  refine TR.gR r1 (TR.pL hp (TR.gR r1 ?_))
  simp only []
  cases hl : G.R r with
  | none =>
    refine PW.if_ (fun _ => ?_) (fun h => absurd rfl h)
    unfold s_J1_rotateRight_J32
    refine TR.gP hp (TR.pP r1 (TR.gP hp ?_))
    simp only [pset, if_neg hpr]
    cases hP : G.P p with
    | none =>
      refine PW.if_ (fun _ => ?_) (fun h => absurd rfl h)
      unfold s_J1_rotateRight_J85
      refine TR.proot (TR.pR r1 (TR.pP hp (PW.ret (k _ ⟨⟨rfl, rfl, rfl, rfl, rfl, rfl⟩, rfl, ?_, ?_⟩))))
      · constructor <;> simp only [pset] <;> grind
      · simp only [pset]; grind
    | some pp =>
      refine PW.if_ (fun h => nomatch h) (fun _ => ?_)
      have hpS : G.S pp := by grind
      refine TR.gP hp ?_
      simp only [pset, if_neg hpr, hP]
      refine TR.gR hpS ?_
      refine PW.if_ (fun hc => ?_) (fun hc => ?_)
      · refine TR.gP hp ?_
        simp only [pset, if_neg hpr, hP]
        unfold s_J1_rotateRight_J85
        refine TR.pR hpS (TR.pR r1 (TR.pP hp (PW.ret (k _ ⟨⟨rfl, rfl, rfl, rfl, rfl, rfl⟩, rfl, ?_, ?_⟩))))
        · constructor <;> simp only [pset] <;> grind
        · simp only [pset]; grind
      · refine TR.gP hp ?_
        simp only [pset, if_neg hpr, hP]
        unfold s_J1_rotateRight_J85
        refine TR.pL hpS (TR.pR r1 (TR.pP hp (PW.ret (k _ ⟨⟨rfl, rfl, rfl, rfl, rfl, rfl⟩, rfl, ?_, ?_⟩))))
        · constructor <;> simp only [pset] <;> grind
        · simp only [pset]; grind
  | some q =>
    have hqS : G.S q := by grind
    have hqp : q ≠ p := by grind
    have hqr : q ≠ r := by grind
    have hpq : p ≠ q := fun e => hqp e.symm
    have hrq : r ≠ q := fun e => hqr e.symm
    refine PW.if_ (fun h => nomatch h) (fun _ => ?_)
    refine TR.gR r1 ?_
    simp only [pset, if_neg hrp, hl]
    refine TR.pP hqS ?_
    unfold s_J1_rotateRight_J32
    refine TR.gP hp (TR.pP r1 (TR.gP hp ?_))
    simp only [pset, if_neg hpr, if_neg hpq]
    cases hP : G.P p with
    | none =>
      refine PW.if_ (fun _ => ?_) (fun h => absurd rfl h)
      unfold s_J1_rotateRight_J85
      refine TR.proot (TR.pR r1 (TR.pP hp (PW.ret (k _ ⟨⟨rfl, rfl, rfl, rfl, rfl, rfl⟩, rfl, ?_, ?_⟩))))
      · constructor <;> simp only [pset] <;> grind
      · simp only [pset]; grind
    | some pp =>
      refine PW.if_ (fun h => nomatch h) (fun _ => ?_)
      have hpS : G.S pp := by grind
      refine TR.gP hp ?_
      simp only [pset, if_neg hpr, if_neg hpq, hP]
      refine TR.gR hpS ?_
      refine PW.if_ (fun hc => ?_) (fun hc => ?_)
      · refine TR.gP hp ?_
        simp only [pset, if_neg hpr, if_neg hpq, hP]
        unfold s_J1_rotateRight_J85
        refine TR.pR hpS (TR.pR r1 (TR.pP hp (PW.ret (k _ ⟨⟨rfl, rfl, rfl, rfl, rfl, rfl⟩, rfl, ?_, ?_⟩))))
        · constructor <;> simp only [pset] <;> grind
        · simp only [pset]; grind
      · refine TR.gP hp ?_
        simp only [pset, if_neg hpr, if_neg hpq, hP]
        unfold s_J1_rotateRight_J85
        refine TR.pL hpS (TR.pR r1 (TR.pP hp (PW.ret (k _ ⟨⟨rfl, rfl, rfl, rfl, rfl, rfl⟩, rfl, ?_, ?_⟩))))
        · constructor <;> simp only [pset] <;> grind
        · simp only [pset]; grind
end TRC
