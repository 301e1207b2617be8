/-! ===== TreeMap, 9: higher key; what is put, what is taken ===== -/
section TRH
variable {β : Type} {K : ZK} {H0 : ZH} {F : Nat → Prop} {t : Nat} {G : TG} {c s : Nat} {Q : β → ZH → Prop} {X : Nat → ZH → Prop} {kk lo hi : Nat → Int}
theorem TR.cComp {a b : Nat} {w v : Int32} {f : Int32 → ZP β} (ha : zBX K H0 F a w) (hb : zBX K H0 F b v) (k : PW (TR H0 F t) G (f (icmp w v)) c s Q X) : PW (TR H0 F t) G (zcallV (some t) 0 (fun y0 => s_J1_compare K y0 (some a) (some b)) f) c s Q X := by
  refine PW.callV (fun H h => ⟨_, h.1⟩) (PW.call 0 0 (Nat.zero_le _) (Nat.zero_le _) ?_)
  unfold s_J1_compare
  refine TR.gcmp (PW.if_ (fun _ => ?_) (fun h => absurd rfl h))
  intro H hR
  refine ⟨?_, ?_⟩
  · rcases zBX_at ha hR with h | h
    · exact ⟨a, 2, _, Or.inl ⟨rfl, Or.inl h, by simp⟩⟩
    · exact ⟨a, 2, _, Or.inl ⟨rfl, Or.inr h, by simp⟩⟩
  · exact TR.cCmp (Q := fun r H' => f r H' (c - 0) (s - 0) Q X) ha hb (PW.ret k) H hR
theorem TR.cHigh {a : Nat} {w : Int32} {f : Option Nat → ZP β} (hT : TI G kk lo hi) (hK : KB K G kk) (ha : zBX K H0 F a w) (hw : -1 ≤ w.toInt) (hw2 : w.toInt < 1000) (k : ∀ r, nxt G kk w.toInt r → PW (TR H0 F t) G (f r) c s Q X) : PW (TR H0 F t) G (zcallV (some t) 0 (fun y0 => s_J1_getHigherEntry K y0 (some a)) f) c s Q X := by
  refine PW.callV (fun H h => ⟨_, h.1⟩) (PW.call 0 0 (Nat.zero_le _) (Nat.zero_le _) ?_)
  unfold s_J1_getHigherEntry
  refine TR.groot ?_
  unfold s_J1_getHigherEntry_L5
  refine PW.loop (n := match G.root with | none => 0 | some x => (hi x - lo x).toNat + 1) (fun n v g c' s' => g = G ∧ (v = none → G.root = none) ∧ (∀ y, v = some y → G.S y ∧ lo y ≤ w.toInt ∧ w.toInt < hi y) ∧ (match v with | none => 0 | some x => (hi x - lo x).toNat + 1) ≤ n) ⟨rfl, fun h => h, fun y h => ?_, Nat.le_refl _⟩ ?_
  · have h1 := hT.rootS y h
    exact ⟨h1.1, by omega, by omega⟩
  rintro n v g c' s' ⟨rfl, hv0, hv, hn⟩ self hself
  unfold s_J1_getHigherEntry_B5
  cases v with
  | none =>
    exact PW.if_ (fun _ => PW.ret (k none ⟨fun m h => (nomatch h), fun _ z hz => absurd hz (hT.rootN (hv0 rfl) z)⟩)) (fun h => absurd rfl h)
  | some y =>
  obtain ⟨hy, hl, hh⟩ := hv y rfl
  obtain ⟨v, hbx, hkv⟩ := hK.bx (H0 := H0) (F := F) hy
  have hb := hT.bnd y hy
  dsimp only at hn
  refine PW.if_ (fun h => nomatch h) (fun _ => TR.gK hy (TR.cComp ha hbx (PW.if_ (fun h1 => ?_) (fun h1 => ?_))))
  · rw [icmp_pos] at h1
    refine TR.gR hy ?_
    cases hr : g.R y with
    | none =>
      refine PW.if_ (fun _ => TR.gP hy ?_) (fun h => absurd rfl h)
      unfold s_J1_getHigherEntry_L64
      exact TR.pUp (b := w.toInt) _ rfl hT hy hh (fun m hm h3 h4 => hT.rN y m hy hr hm (by omega) h4) (fun r hr H hH => k r hr H hH)
    | some q =>
      have h3 := hT.rS y q hy hr
      have h4 := hT.bnd q h3.1
      refine PW.if_ (fun h => nomatch h) (fun _ => TR.gR hy ?_)
      rw [hr]
      exact hself _ (some q) g c' s' _ _ (by dsimp only; omega) ⟨rfl, (fun h => nomatch h), fun z h => by cases h; exact ⟨h3.1, by omega, by omega⟩, Nat.le_refl _⟩
  · rw [icmp_pos] at h1
    refine TR.gL hy ?_
    cases hr : g.L y with
    | none =>
      refine PW.if_ (fun _ => PW.ret (k (some y) ⟨fun m h => ?_, fun h => nomatch h⟩)) (fun h => absurd rfl h)
      cases h
      refine ⟨hy, by omega, fun z hz hbz => ?_⟩
      by_cases h : kk z < kk y
      · exact (hT.lN y z hy hr hz (by omega) h).elim
      · omega
    | some q =>
      have h3 := hT.lS y q hy hr
      have h4 := hT.bnd q h3.1
      refine PW.if_ (fun h => nomatch h) (fun _ => TR.gL hy ?_)
      rw [hr]
      exact hself _ (some q) g c' s' _ _ (by dsimp only; omega) ⟨rfl, (fun h => nomatch h), fun z h => by cases h; exact ⟨h3.1, by omega, by omega⟩, Nat.le_refl _⟩
/-- what the map holds -/
def Has (G : TG) (kk : Nat → Int) (k : Int) (v : Nat) : Prop := ∃ n, G.S n ∧ kk n = k ∧ G.val n = v
end TRH
/-! shape: a leaf is added, a node with one child at most goes -/
theorem TI_addL {G : TG} {kk lo hi : Nat → Int} (h : TI G kk lo hi) {p q : Nat} {k : Int} (hp : G.S p) (hq : ¬ G.S q) (hL : G.L p = none) (h1 : lo p < k) (h2 : k < kk p) : TI { G with S := fun n => G.S n ∨ n = q, L := pset (pset G.L q none) p (some q), R := pset G.R q none, P := pset G.P q (some p) } (pset kk q k) (pset lo q (lo p)) (pset hi q (kk p)) := by
  obtain ⟨h1, h2, h3, h4, h5, h6, h7, h8, h9, h10, h11, h12, h13, h14, h15, h16⟩ := h
  have hpq : p ≠ q := fun e => hq (e ▸ hp)
  have hS : ∀ n, G.S n → n ≠ q := fun n hn e => hq (e ▸ hn)
  constructor <;> simp only [pset] <;> grind
theorem TI_addR {G : TG} {kk lo hi : Nat → Int} (h : TI G kk lo hi) {p q : Nat} {k : Int} (hp : G.S p) (hq : ¬ G.S q) (hR : G.R p = none) (h1 : kk p < k) (h2 : k < hi p) : TI { G with S := fun n => G.S n ∨ n = q, R := pset (pset G.R q none) p (some q), L := pset G.L q none, P := pset G.P q (some p) } (pset kk q k) (pset lo q (kk p)) (pset hi q (hi p)) := by
  obtain ⟨h1, h2, h3, h4, h5, h6, h7, h8, h9, h10, h11, h12, h13, h14, h15, h16⟩ := h
  have hpq : p ≠ q := fun e => hq (e ▸ hp)
  have hS : ∀ n, G.S n → n ≠ q := fun n hn e => hq (e ▸ hn)
  constructor <;> simp only [pset] <;> grind
