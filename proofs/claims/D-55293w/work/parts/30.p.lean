/-! ===== THE P-LAYER BY HAND, 1: judgements ===== -/
/-- only cells of F change; none goes -/
def zFr (F : Nat → Prop) (H H' : ZH) : Prop := ∀ a e, H a = some e → (¬ F a → H' a = some e) ∧ H' a ≠ none
theorem zFr.rf {F : Nat → Prop} {H : ZH} : zFr F H H := fun a e h => ⟨fun _ => h, by rw [h]; exact fun e => nomatch e⟩
theorem zFr.tr {F G : Nat → Prop} {H H1 H2 : ZH} (h : zFr F H H1) (g : zFr G H1 H2) (hF : ∀ a, F a → H a ≠ none → (F a ∨ G a)) (hG : ∀ a, G a → H a ≠ none → F a) : zFr F H H2 := by
  intro a e ha
  obtain ⟨h1, h2⟩ := h a e ha
  cases he : H1 a with
  | none => exact absurd he h2
  | some e1 =>
    obtain ⟨g1, g2⟩ := g a e1 he
    refine ⟨fun n => ?_, g2⟩
    have h3 := h1 n
    rw [he] at h3
    cases h3
    exact g1 (fun ga => n (hG a ga (by rw [ha]; exact fun e => nomatch e)))
theorem zFr.tr' {F : Nat → Prop} {H H1 H2 : ZH} (h : zFr F H H1) (g : zFr F H1 H2) : zFr F H H2 := h.tr g (fun _ f _ => Or.inl f) (fun _ f _ => f)
theorem zFr.mono {F G : Nat → Prop} {H H1 : ZH} (h : zFr F H H1) (hF : ∀ a, F a → H a ≠ none → G a) : zFr G H H1 := fun a e ha => ⟨fun n => (h a e ha).1 (fun f => n (hF a f (by rw [ha]; exact fun e => nomatch e))), (h a e ha).2⟩
theorem zFr.up {F : Nat → Prop} {H H1 : ZH} {a : Nat} {e : va_E} (h : zFr F H H1) (hF : F a ∨ H a = none) : zFr F H (zup H1 a e) := by
  intro b e0 hb
  obtain ⟨h1, h2⟩ := h b e0 hb
  by_cases hba : b = a
  · subst hba
    refine ⟨fun n => ?_, by simp [zup]⟩
    rcases hF with hF | hF
    · exact absurd hF n
    · rw [hF] at hb; cases hb
  · simp only [zup, if_neg hba]
    exact ⟨h1, h2⟩
/-- a program over what R says of the heap -/
def PW {σ β : Type} (R : σ → ZH → Prop) (g : σ) (m : ZP β) (c s : Nat) (Q : β → ZH → Prop) (X : Nat → ZH → Prop) : Prop := ∀ H, R g H → m H c s Q X
section PWR
variable {σ τ β α : Type} {R : σ → ZH → Prop} {g : σ} {c s : Nat} {Q : β → ZH → Prop} {X : Nat → ZH → Prop}
theorem PW.ret {v : β} (h : ∀ H, R g H → Q v H) : PW R g (zret v) c s Q X := h
theorem PW.if_ {p : Prop} {f1 f2 : ZP β} (h1 : p → PW R g f1 c s Q X) (h2 : ¬ p → PW R g f2 c s Q X) : PW R g (zif p f1 f2) c s Q X := fun H hR => ⟨fun hp => h1 hp H hR, fun hp => h2 hp H hR⟩
theorem PW.asg {p : Prop} {f1 : ZP β} (hp : p) (h1 : PW R g f1 c s Q X) : PW R g (zasg p f1) c s Q X := fun H hR => ⟨hp, h1 H hR⟩
theorem PW.call {m : ZP α} {f : α → ZP β} (mc ms : Nat) (h1 : mc ≤ c) (h2 : ms ≤ s) (h : PW R g m mc ms (fun r H' => f r H' (c - mc) (s - ms) Q X) X) : PW R g (zcall m f) c s Q X := fun H hR => ⟨mc, ms, h1, h2, h H hR⟩
theorem PW.callV {a ci : Nat} {m : Nat → ZP α} {f : α → ZP β} (ha : ∀ H, R g H → ∃ fs, H a = some (.inr (ci, fs))) (h : PW R g (zcall (m a) f) c s Q X) : PW R g (zcallV (some a) ci m f) c s Q X := by
  intro H hR
  obtain ⟨fs, h1⟩ := ha H hR
  have h2 := h H hR
  simp only [zcallV, zobj, h1, if_true]
  exact h2
theorem PW.loop {body : (τ → ZP β) → τ → ZP β} {v : τ} {n : Nat} (I : Nat → τ → σ → Nat → Nat → Prop) (h0 : I n v g c s) (hb : ∀ n v g c s, I n v g c s → ∀ self : τ → ZP β, (∀ n' v' g' c' s' Q' X', n' < n → I n' v' g' c' s' → PW R g' (self v') c' s' Q' X') → PW R g (body self v) c s Q X) : PW R g (zloop body v) c s Q X := by
  intro H hR
  refine ⟨fun n v h c s => ∃ g, R g h ∧ I n v g c s, n, ⟨g, hR, h0⟩, ?_⟩
  rintro n v h c s ⟨g', hR', hI⟩
  exact hb n v g' c s hI _ (fun n' v' g'' c' s' Q' X' hn hI' H' hR'' => ⟨n', hn, g'', hR'', hI'⟩) h hR'
/-- a callee's spec put to use: what it leaves is of the same R -/
theorem PW.use {m : ZP α} {f : α → ZP β} {P : α → σ → Prop} {mc ms : Nat} (h1 : mc ≤ c) (h2 : ms ≤ s) (hm : ∀ (Q' : α → ZH → Prop), (∀ r g', P r g' → ∀ H', R g' H' → Q' r H') → PW R g m mc ms Q' X) (k : ∀ r g', P r g' → PW R g' (f r) (c - mc) (s - ms) Q X) : PW R g (zcall m f) c s Q X :=
  PW.call mc ms h1 h2 (hm _ (fun r g' hp H' hR => k r g' hp H' hR))
end PWR
/-! ===== TreeMap: its cells ===== -/
structure TG where
  key : Nat → Nat
  val : Nat → Nat
  L : Nat → Option Nat
  R : Nat → Option Nat
  P : Nat → Option Nat
  C : Nat → Int32
  S : Nat → Prop
  root : Option Nat
  vw : Option Nat
  sz : Int32
  md : Int32
def pset {α : Type} (f : Nat → α) (n : Nat) (v : α) : Nat → α := fun x => if x = n then v else f x
def TE (G : TG) (n : Nat) : va_E := .inr (12, [.ref (G.key n), .ref (G.val n), va_rf (G.L n), va_rf (G.R n), va_rf (G.P n), .int (G.C n)])
def TO (G : TG) : va_E := .inr (0, [.null, va_rf G.vw, .null, va_rf G.root, .int G.sz, .int G.md, .null, .null, .null])
/-- the map at t holds G, and else nothing but F changed since H0 -/
def TR (H0 : ZH) (F : Nat → Prop) (t : Nat) (G : TG) (H : ZH) : Prop := H t = some (TO G) ∧ (∀ n, G.S n → H n = some (TE G n)) ∧ zFr F H0 H ∧ (F t ∨ H0 t = none) ∧ (∀ n, G.S n → F n ∨ H0 n = none) ∧ ∀ n, G.S n → H0 n = none ∨ F n
section TRR
variable {β : Type} {H0 : ZH} {F : Nat → Prop} {t : Nat} {G : TG} {c s : Nat} {Q : β → ZH → Prop} {X : Nat → ZH → Prop}
theorem zfR_at {H : ZH} {a ci k : Nat} {fs : List Value} {v : Option Nat} (h : H a = some (.inr (ci, fs))) (hk : fs[k]? = some (va_rf v)) : zfR H (some a) ci k = some v := by
  simp only [zfR, zobj, h, if_true, hk]
  cases v <;> rfl
theorem zfI_at {H : ZH} {a ci k : Nat} {fs : List Value} {v : Int32} (h : H a = some (.inr (ci, fs))) (hk : fs[k]? = some (.int v)) : zfI H (some a) ci k = some v := by
  simp only [zfI, zobj, h, if_true, hk]
theorem zobj_at {H : ZH} {a ci : Nat} {fs : List Value} (h : H a = some (.inr (ci, fs))) : zobj H (some a) ci = some (a, fs) := by
  simp only [zobj, h, if_true]
theorem TR.gL {n : Nat} {f : Option Nat → ZP β} (hn : G.S n) (k : PW (TR H0 F t) G (f (G.L n)) c s Q X) : PW (TR H0 F t) G (zgetR (some n) 12 2 f) c s Q X := by
  intro H h
  simp only [zgetR, zfR_at (h.2.1 n hn) (k := 2) (v := G.L n) rfl]
  exact k H h
theorem TR.gR {n : Nat} {f : Option Nat → ZP β} (hn : G.S n) (k : PW (TR H0 F t) G (f (G.R n)) c s Q X) : PW (TR H0 F t) G (zgetR (some n) 12 3 f) c s Q X := by
  intro H h
  simp only [zgetR, zfR_at (h.2.1 n hn) (k := 3) (v := G.R n) rfl]
  exact k H h
theorem TR.gP {n : Nat} {f : Option Nat → ZP β} (hn : G.S n) (k : PW (TR H0 F t) G (f (G.P n)) c s Q X) : PW (TR H0 F t) G (zgetR (some n) 12 4 f) c s Q X := by
  intro H h
  simp only [zgetR, zfR_at (h.2.1 n hn) (k := 4) (v := G.P n) rfl]
  exact k H h
theorem TR.gK {n : Nat} {f : Option Nat → ZP β} (hn : G.S n) (k : PW (TR H0 F t) G (f (some (G.key n))) c s Q X) : PW (TR H0 F t) G (zgetR (some n) 12 0 f) c s Q X := by
  intro H h
  simp only [zgetR, zfR_at (h.2.1 n hn) (k := 0) (v := some (G.key n)) rfl]
  exact k H h
theorem TR.gV {n : Nat} {f : Option Nat → ZP β} (hn : G.S n) (k : PW (TR H0 F t) G (f (some (G.val n))) c s Q X) : PW (TR H0 F t) G (zgetR (some n) 12 1 f) c s Q X := by
  intro H h
  simp only [zgetR, zfR_at (h.2.1 n hn) (k := 1) (v := some (G.val n)) rfl]
  exact k H h
theorem TR.gC {n : Nat} {f : Int32 → ZP β} (hn : G.S n) (k : PW (TR H0 F t) G (f (G.C n)) c s Q X) : PW (TR H0 F t) G (zgetI (some n) 12 5 f) c s Q X := by
  intro H h
  simp only [zgetI, zfI_at (h.2.1 n hn) (k := 5) (v := G.C n) rfl]
  exact k H h
theorem TR.groot {f : Option Nat → ZP β} (k : PW (TR H0 F t) G (f G.root) c s Q X) : PW (TR H0 F t) G (zgetR (some t) 0 3 f) c s Q X := by
  intro H h
  simp only [zgetR, zfR_at h.1 (k := 3) (v := G.root) rfl]
  exact k H h
theorem TR.gcmp {f : Option Nat → ZP β} (k : PW (TR H0 F t) G (f none) c s Q X) : PW (TR H0 F t) G (zgetR (some t) 0 2 f) c s Q X := by
  intro H h
  simp only [zgetR, zfR_at h.1 (k := 2) (v := none) rfl]
  exact k H h
theorem TR.gvw {f : Option Nat → ZP β} (k : PW (TR H0 F t) G (f G.vw) c s Q X) : PW (TR H0 F t) G (zgetR (some t) 0 1 f) c s Q X := by
  intro H h
  simp only [zgetR, zfR_at h.1 (k := 1) (v := G.vw) rfl]
  exact k H h
theorem TR.gsz {f : Int32 → ZP β} (k : PW (TR H0 F t) G (f G.sz) c s Q X) : PW (TR H0 F t) G (zgetI (some t) 0 4 f) c s Q X := by
  intro H h
  simp only [zgetI, zfI_at h.1 (k := 4) (v := G.sz) rfl]
  exact k H h
theorem TR.gmd {f : Int32 → ZP β} (k : PW (TR H0 F t) G (f G.md) c s Q X) : PW (TR H0 F t) G (zgetI (some t) 0 5 f) c s Q X := by
  intro H h
  simp only [zgetI, zfI_at h.1 (k := 5) (v := G.md) rfl]
  exact k H h
theorem TE_ne_TO {G G' : TG} {n : Nat} : TE G n ≠ TO G' := by simp [TE, TO]
/-- a node's cell is rewritten -/
theorem TR.upE {G' : TG} {n : Nat} {H : ZH} (h : TR H0 F t G H) (hn : G.S n) (hO : TO G' = TO G) (hS : G'.S = G.S) (hE : ∀ m, m ≠ n → TE G' m = TE G m) : TR H0 F t G' (zup H n (TE G' n)) := by
  obtain ⟨h1, h2, h3, h4, h5, h6⟩ := h
  have hne : t ≠ n := fun e => by
    rw [e, h2 n hn] at h1
    exact TE_ne_TO (Option.some.inj h1)
  refine ⟨by rw [zup_n hne, hO]; exact h1, fun m hm => ?_, h3.up (h5 n hn), h4, by rw [hS]; exact h5, by rw [hS]; exact h6⟩
  by_cases e : m = n
  · subst e; exact zup_s
  · rw [zup_n e, hE m e]; rw [hS] at hm; exact h2 m hm
theorem TR.upO {G' : TG} {H : ZH} (h : TR H0 F t G H) (hS : G'.S = G.S) (hE : ∀ m, TE G' m = TE G m) : TR H0 F t G' (zup H t (TO G')) := by
  obtain ⟨h1, h2, h3, h4, h5, h6⟩ := h
  refine ⟨zup_s, fun m hm => ?_, h3.up h4, h4, by rw [hS]; exact h5, by rw [hS]; exact h6⟩
  rw [hS] at hm
  have hne : m ≠ t := fun e => by
    rw [e] at hm
    rw [h2 t hm] at h1
    exact TE_ne_TO (Option.some.inj h1)
  rw [zup_n hne, hE m]; exact h2 m hm
theorem TR.pL {n : Nat} {v : Option Nat} {f : ZP β} (hn : G.S n) (k : PW (TR H0 F t) { G with L := pset G.L n v } f c s Q X) : PW (TR H0 F t) G (zputR (some n) 12 2 v f) c s Q X := by
  intro H h
  simp only [zputR, zobj_at (h.2.1 n hn)]
  refine ⟨by simp, ?_⟩
  have := h.upE (G' := { G with L := pset G.L n v }) hn rfl rfl (fun m e => by simp [TE, pset, e])
  simp only [TE, pset, if_true] at this
  exact k _ this
theorem TR.pR {n : Nat} {v : Option Nat} {f : ZP β} (hn : G.S n) (k : PW (TR H0 F t) { G with R := pset G.R n v } f c s Q X) : PW (TR H0 F t) G (zputR (some n) 12 3 v f) c s Q X := by
  intro H h
  simp only [zputR, zobj_at (h.2.1 n hn)]
  refine ⟨by simp, ?_⟩
  have := h.upE (G' := { G with R := pset G.R n v }) hn rfl rfl (fun m e => by simp [TE, pset, e])
  simp only [TE, pset, if_true] at this
  exact k _ this
theorem TR.pP {n : Nat} {v : Option Nat} {f : ZP β} (hn : G.S n) (k : PW (TR H0 F t) { G with P := pset G.P n v } f c s Q X) : PW (TR H0 F t) G (zputR (some n) 12 4 v f) c s Q X := by
  intro H h
  simp only [zputR, zobj_at (h.2.1 n hn)]
  refine ⟨by simp, ?_⟩
  have := h.upE (G' := { G with P := pset G.P n v }) hn rfl rfl (fun m e => by simp [TE, pset, e])
  simp only [TE, pset, if_true] at this
  exact k _ this
theorem TR.pK {n : Nat} {v : Nat} {f : ZP β} (hn : G.S n) (k : PW (TR H0 F t) { G with key := pset G.key n v } f c s Q X) : PW (TR H0 F t) G (zputR (some n) 12 0 (some v) f) c s Q X := by
  intro H h
  simp only [zputR, zobj_at (h.2.1 n hn)]
  refine ⟨by simp, ?_⟩
  have := h.upE (G' := { G with key := pset G.key n v }) hn rfl rfl (fun m e => by simp [TE, pset, e])
  simp only [TE, pset, if_true] at this
  exact k _ this
theorem TR.pV {n : Nat} {v : Nat} {f : ZP β} (hn : G.S n) (k : PW (TR H0 F t) { G with val := pset G.val n v } f c s Q X) : PW (TR H0 F t) G (zputR (some n) 12 1 (some v) f) c s Q X := by
  intro H h
  simp only [zputR, zobj_at (h.2.1 n hn)]
  refine ⟨by simp, ?_⟩
  have := h.upE (G' := { G with val := pset G.val n v }) hn rfl rfl (fun m e => by simp [TE, pset, e])
  simp only [TE, pset, if_true] at this
  exact k _ this
theorem TR.pC {n : Nat} {v : Int32} {f : ZP β} (hn : G.S n) (hv : v = 0 ∨ v = 1) (k : PW (TR H0 F t) { G with C := pset G.C n v } f c s Q X) : PW (TR H0 F t) G (zputT .boolean (some n) 12 5 v f) c s Q X := by
  intro H h
  simp only [zputT, zobj_at (h.2.1 n hn)]
  refine ⟨by rcases hv with rfl | rfl <;> decide, by simp, ?_⟩
  have := h.upE (G' := { G with C := pset G.C n v }) hn rfl rfl (fun m e => by simp [TE, pset, e])
  simp only [TE, pset, if_true] at this
  exact k _ this
theorem TR.proot {v : Option Nat} {f : ZP β} (k : PW (TR H0 F t) { G with root := v } f c s Q X) : PW (TR H0 F t) G (zputR (some t) 0 3 v f) c s Q X := by
  intro H h
  simp only [zputR, zobj_at h.1]
  exact ⟨by simp, k _ (h.upO rfl (fun _ => rfl))⟩
theorem TR.pvw {v : Option Nat} {f : ZP β} (k : PW (TR H0 F t) { G with vw := v } f c s Q X) : PW (TR H0 F t) G (zputR (some t) 0 1 v f) c s Q X := by
  intro H h
  simp only [zputR, zobj_at h.1]
  exact ⟨by simp, k _ (h.upO rfl (fun _ => rfl))⟩
theorem TR.psz {v : Int32} {f : ZP β} (k : PW (TR H0 F t) { G with sz := v } f c s Q X) : PW (TR H0 F t) G (zputI (some t) 0 4 v f) c s Q X := by
  intro H h
  simp only [zputI, zobj_at h.1]
  exact ⟨by simp, k _ (h.upO rfl (fun _ => rfl))⟩
theorem TR.pmd {v : Int32} {f : ZP β} (k : PW (TR H0 F t) { G with md := v } f c s Q X) : PW (TR H0 F t) G (zputI (some t) 0 5 v f) c s Q X := by
  intro H h
  simp only [zputI, zobj_at h.1]
  exact ⟨by simp, k _ (h.upO rfl (fun _ => rfl))⟩
theorem TR.isO {f : Unit} : ∀ H, TR H0 F t G H → ∃ fs, H t = some (.inr (0, fs)) := fun H h => ⟨_, h.1⟩
end TRR
