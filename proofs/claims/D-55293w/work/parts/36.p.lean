/-! ===== TreeMap, 7: keys, search ===== -/
/-- a box of w, that stays -/
def zBX (K : ZK) (H0 : ZH) (F : Nat → Prop) (a : Nat) (w : Int32) : Prop := (H0 a = some (.inr (2, [.int w])) ∧ ¬ F a) ∨ K.2 a = some (.inr (2, [.int w]))
/-- the nodes' keys are constant boxes -/
def KB (K : ZK) (G : TG) (kk : Nat → Int) : Prop := ∀ n, G.S n → ∃ v : Int32, K.2 (G.key n) = some (.inr (2, [.int v])) ∧ kk n = v.toInt
/-- Integer.compareTo's answer -/
def icmp (w v : Int32) : Int32 := if v ≤ w then (if w = v then 0 else 1) else -1
theorem PW.weak {σ β : Type} {R : σ → ZH → Prop} {g g' : σ} {m : ZP β} {c s : Nat} {Q : β → ZH → Prop} {X : Nat → ZH → Prop} (h : ∀ H, R g H → R g' H) (k : PW R g' m c s Q X) : PW R g m c s Q X := fun H hR => k H (h H hR)
section TRK
variable {β : Type} {K : ZK} {H0 : ZH} {F : Nat → Prop} {t : Nat} {G : TG} {c s : Nat} {Q : β → ZH → Prop} {X : Nat → ZH → Prop}
theorem zBX_at {H : ZH} {a : Nat} {w : Int32} (h : zBX K H0 F a w) (hR : TR H0 F t G H) : H a = some (.inr (2, [.int w])) ∨ K.2 a = some (.inr (2, [.int w])) := by
  rcases h with ⟨h1, h2⟩ | h
  · exact Or.inl ((hR.2.2.1 a _ h1).1 h2)
  · exact Or.inr h
theorem TR.cCmp {a b : Nat} {w v : Int32} {f : Int32 → ZP β} (ha : zBX K H0 F a w) (hb : zBX K H0 F b v) (k : PW (TR H0 F t) G (f (icmp w v)) c s Q X) : PW (TR H0 F t) G (zcallVK K (some a) 2 (fun y0 => s_J13_compareTo K y0 (some b)) f) c s Q X := by
  intro H hR
  have h1 := zBX_at ha hR
  have h2 := zBX_at hb hR
  refine ⟨a, [.int w], ?_, 0, 0, Nat.zero_le _, Nat.zero_le _, ?_⟩
  · rcases h1 with h | h
    · exact Or.inl (zobj_at h)
    · exact Or.inr (zobj_at h)
  · unfold s_J13_compareTo
    refine ⟨⟨b, 2, [.int v], Or.inl ⟨rfl, h2, by simp⟩⟩, a, [.int w], ?_, 0, 0, Nat.zero_le _, Nat.zero_le _, ?_⟩
    · rcases h1 with h | h
      · exact Or.inl (zobj_at h)
      · exact Or.inr (zobj_at h)
    · unfold s_J13_compareTo_2
      refine ⟨w, ?_, v, ?_, 0, 0, Nat.zero_le _, Nat.zero_le _, ?_⟩
      · rcases h1 with h | h
        · exact Or.inl (zfI_at h rfl)
        · exact Or.inr (zfI_at h rfl)
      · rcases h2 with h | h
        · exact Or.inl (zfI_at h rfl)
        · exact Or.inr (zfI_at h rfl)
      · unfold s_J13_compare
        have hk := k H hR
        unfold icmp at hk
        refine ⟨fun e1 => ?_, fun e1 => ?_⟩
        · rw [if_pos e1] at hk
          refine ⟨fun e2 => ?_, fun e2 => ?_⟩
          · rw [if_pos e2] at hk; exact hk
          · rw [if_neg e2] at hk; exact hk
        · rw [if_neg e1] at hk; exact hk
theorem KB.bx {kk : Nat → Int} (h : KB K G kk) {n : Nat} (hn : G.S n) : ∃ v : Int32, zBX K H0 F (G.key n) v ∧ kk n = v.toInt := by
  obtain ⟨v, h1, h2⟩ := h n hn
  exact ⟨v, Or.inr h1, h2⟩
theorem icmp_pos {w v : Int32} : 0 ≤ icmp w v ↔ v.toInt ≤ w.toInt := by
  unfold icmp
  have h := @Int32.le_iff_toInt_le v w
  by_cases h1 : v ≤ w
  · rw [if_pos h1]
    by_cases h2 : w = v
    · rw [if_pos h2]; simp [h.mp h1]
    · rw [if_neg h2]; simp [h.mp h1]
  · rw [if_neg h1]
    have h3 : ¬ v.toInt ≤ w.toInt := fun e => h1 (h.mpr e)
    simp [h3]
theorem icmp_le {w v : Int32} : icmp w v ≤ 0 ↔ w.toInt ≤ v.toInt := by
  unfold icmp
  have h := @Int32.le_iff_toInt_le v w
  by_cases h1 : v ≤ w
  · rw [if_pos h1]
    by_cases h2 : w = v
    · rw [if_pos h2]; simp [h2]
    · rw [if_neg h2]
      have h3 : w.toInt ≠ v.toInt := fun e => h2 (Int32.toInt_inj.mp e)
      have h4 := h.mp h1
      constructor
      · intro e; exact absurd e (by decide)
      · intro e; omega
  · rw [if_neg h1]
    have h3 : ¬ v.toInt ≤ w.toInt := fun e => h1 (h.mpr e)
    constructor
    · intro _; omega
    · intro _; decide
/-- getEntry -/
theorem TR.cGetE {kk lo hi : Nat → Int} {a : Nat} {w : Int32} {f : Option Nat → ZP β} (hT : TI G kk lo hi) (hK : KB K G kk) (ha : zBX K H0 F a w) (k : ∀ r, (∀ n, r = some n → G.S n ∧ kk n = w.toInt) → (r = none → ∀ n, G.S n → kk n ≠ w.toInt) → PW (TR H0 F t) G (f r) c s Q X) : PW (TR H0 F t) G (zcallV (some t) 0 (fun y0 => s_J1_getEntry K y0 (some a)) f) c s Q X := by
  refine PW.callV (fun H h => ⟨_, h.1⟩) (PW.call 0 0 (Nat.zero_le _) (Nat.zero_le _) ?_)
  unfold s_J1_getEntry
  refine TR.gcmp (PW.if_ (fun _ => ?_) (fun h => absurd rfl h))
  refine PW.call 0 0 (Nat.zero_le _) (Nat.zero_le _) ?_
  unfold s_J14_requireNonNull
  refine PW.if_ (fun h => nomatch h) (fun _ => PW.ret (fun H hR => ⟨?_, ?_⟩))
  · rcases zBX_at ha hR with h | h
    · exact ⟨a, 2, _, Or.inl ⟨rfl, Or.inl h, by simp⟩⟩
    · exact ⟨a, 2, _, Or.inl ⟨rfl, Or.inr h, by simp⟩⟩
  revert H
  show PW (TR H0 F t) G _ _ _ _ _
  refine TR.groot ?_
  unfold s_J1_getEntry_L28
  refine PW.loop (n := match G.root with | none => 0 | some x => (hi x - lo x).toNat + 1) (fun n v g c' s' => g = G ∧ (∀ x, v = some x → G.S x) ∧ (∀ m, G.S m → kk m = w.toInt → ∃ x, v = some x ∧ lo x < kk m ∧ kk m < hi x) ∧ (match v with | none => 0 | some x => (hi x - lo x).toNat + 1) ≤ n) ⟨rfl, fun x h => (hT.rootS x h).1, ?_, Nat.le_refl _⟩ ?_
  · intro m hm hw
    cases hr : G.root with
    | none => exact absurd hm (hT.rootN hr m)
    | some x =>
      have h1 := hT.rootS x hr
      have h2 := hT.gb m hm
      have h3 := hT.bnd m hm
      exact ⟨x, rfl, by omega, by omega⟩
  rintro n v g c' s' ⟨rfl, hv, hm, hn⟩ self hself
  unfold s_J1_getEntry_B28
  cases v with
  | none =>
    refine PW.if_ (fun _ => PW.ret (k none (fun n h => nomatch h) (fun _ m hmS e => ?_))) (fun h => absurd rfl h)
    obtain ⟨x, h, -⟩ := hm m hmS e
    cases h
  | some x =>
  have hx := hv x rfl
  refine PW.if_ (fun h => nomatch h) (fun _ => TR.gK hx ?_)
  obtain ⟨v, hbx, hkv⟩ := hK.bx (H0 := H0) (F := F) hx
  refine TR.cCmp ha hbx ?_
  have hb := hT.bnd x hx
  have hinj := hT.inj
  dsimp only at hn
  refine PW.if_ (fun h1 => PW.if_ (fun h2 => ?_) (fun h2 => ?_)) (fun h1 => ?_)
  · rw [icmp_pos] at h1
    rw [icmp_le] at h2
    exact PW.ret (k (some x) (fun n h => by cases h; exact ⟨hx, by omega⟩) (fun h => nomatch h))
  · rw [icmp_pos] at h1
    rw [icmp_le] at h2
    refine TR.gR hx ?_
    refine hself _ (g.R x) g c' s' _ _ ?_ ⟨rfl, fun y h => (hT.rS x y hx h).1, fun m hmS e => ?_, Nat.le_refl _⟩
    · cases hr : g.R x with
      | none => dsimp only; omega
      | some y =>
        have h3 := hT.rS x y hx hr
        have h4 := hT.bnd y h3.1
        dsimp only
        omega
    · obtain ⟨z, h3, h4, h5⟩ := hm m hmS e
      cases h3
      cases hr : g.R x with
      | none => exact (hT.rN x m hx hr hmS (by omega) h5).elim
      | some y =>
        have h6 := hT.rS x y hx hr
        exact ⟨y, rfl, by omega, by omega⟩
  · rw [icmp_pos] at h1
    refine TR.gL hx ?_
    refine hself _ (g.L x) g c' s' _ _ ?_ ⟨rfl, fun y h => (hT.lS x y hx h).1, fun m hmS e => ?_, Nat.le_refl _⟩
    · cases hr : g.L x with
      | none => dsimp only; omega
      | some y =>
        have h3 := hT.lS x y hx hr
        have h4 := hT.bnd y h3.1
        dsimp only
        omega
    · obtain ⟨z, h3, h4, h5⟩ := hm m hmS e
      cases h3
      cases hr : g.L x with
      | none => exact (hT.lN x m hx hr hmS h4 (by omega)).elim
      | some y =>
        have h6 := hT.lS x y hx hr
        exact ⟨y, rfl, by omega, by omega⟩
end TRK
