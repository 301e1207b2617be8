section ZR4
variable {β : Type} {x : ZX β} {K : ZK} {cc : ByteArray} {own nm : String} {n F L : Nat} {en : β → Option Value} {ret : Option FieldType} {xt : List ExceptionTableEntry} {pc : Nat} {lv lv' : List (Nat × Value)} {st : List Value} {f g : ZP β}
theorem zEV (hE : zE x K cc own nm n F L en ret xt) : zV x.2.2.2.2.2.2.2.2.2.2.2.1 x.2.2.2.2.1 := by
  obtain ⟨p, l, e, R, s, m, args, below, meth, c, nL, G, enc, Q, X, mc, ms, qs⟩ := x
  exact hE.2.2.2.2.2.2.1
theorem zEts (hE : zE x K cc own nm n F L en ret xt) : ∀ w ∈ zAll, w.before x.2.2.2.2.2.2.1 x.2.2.2.2.1 = true := by
  obtain ⟨p, l, e, R, s, m, args, below, meth, c, nL, G, enc, Q, X, mc, ms, qs⟩ := x
  exact hE.2.2.2.2.2.1
theorem zEK (hE : zE x K cc own nm n F L en ret xt) : x.2.2.2.2.2.2.2.2.2.2.2.1.2.2.2 = K := by
  obtain ⟨p, l, e, R, s, m, args, below, meth, c, nL, G, enc, Q, X, mc, ms, qs⟩ := x
  exact hE.2.2.2.2.2.2.2.2.2.2.2.2.2.1
theorem zEr (hE : zE x K cc own nm n F L en ret xt) : x.2.2.2.1.frames = F ∧ x.2.2.2.1.locals = L ∧ x.2.2.2.1.cells = x.2.2.2.2.2.2.2.2.2.2.2.2.2.2.2.1 ∧ x.2.2.2.1.slots = x.2.2.2.2.2.2.2.2.2.2.2.2.2.2.2.2.1 := by
  obtain ⟨p, l, e, R, s, m, args, below, meth, c, nL, G, enc, Q, X, mc, ms, qs⟩ := x
  exact ⟨hE.2.2.2.2.2.2.2.2.2.1, hE.2.2.2.2.2.2.2.2.2.2.1, hE.2.2.2.2.2.2.2.2.2.2.2.1, hE.2.2.2.2.2.2.2.2.2.2.2.2.1⟩
theorem zEx (hE : zE x K cc own nm n F L en ret xt) : x.2.2.2.2.2.2.2.2.2.2.2.2.1 = en ∧ x.2.2.2.2.2.2.2.2.1.sig.returnType = ret ∧ x.2.2.2.2.2.2.2.2.1.name = nm ∧ x.2.2.2.2.2.2.2.2.2.1.exceptionTable.toList = xt ∧ x.2.2.2.2.2.2.2.2.1.locks = false := by
  obtain ⟨p, l, e, R, s, m, args, below, meth, c, nL, G, enc, Q, X, mc, ms, qs⟩ := x
  exact ⟨hE.2.2.2.2.2.2.2.2.2.2.2.2.2.2.1, hE.2.2.2.2.2.2.2.2.2.2.2.2.2.2.2.1, hE.2.2.2.2.2.2.2.2.2.2.2.2.2.2.2.2.1, hE.2.2.2.2.2.2.2.2.2.2.2.2.2.2.2.2.2, hE.2.2.2.2.2.2.2.1⟩
/-! answers -/
abbrev encI : Int32 → Option Value := fun v => some (.int v)
abbrev encJ : Int64 → Option Value := fun v => some (.long v)
abbrev encF : UInt32 → Option Value := fun v => some (.float v)
abbrev encD : UInt64 → Option Value := fun v => some (.double v)
abbrev encR : Option Nat → Option Value := fun v => some (va_rf v)
abbrev encV : Unit → Option Value := fun _ => none
theorem zs_iret {x : ZX Int32} (hE : zE x K cc own nm n F L encI (some .int) xt) {v : Int32} (d : decode cc pc = .ok (.ireturn, 1)) : zS x pc lv [.int v] (zret v) := by
  obtain ⟨p, l, e, R, s, m, args, below, meth, c, nL, G, enc, Q, X, mc, ms, qs⟩ := x
  have hx := zEx hE
  dsimp only at hx
  obtain ⟨rfl, hr, -, -, hlk⟩ := hx
  exact fun ls hls h cb sb H locs cells slots hf hC hO h1 h2 => W.widen (k := mc) (n := ms) (by omega) (by omega) (vx_ret (W.iret hE.1 hE.2.1 hr (fun t ht _ => ⟨v, h, rfl, hf, by rw [ht]; exact hC, by rw [ht]; exact hO.1⟩) hO.2.1 d hlk))
theorem zs_zret {x : ZX Int32} {ty : FieldType} (hE : zE x K cc own nm n F L encI (some ty) xt) {v : Int32} (hn : narrow ty (.int v) = .int v) (d : decode cc pc = .ok (.ireturn, 1)) : zS x pc lv [.int v] (zret v) := by
  obtain ⟨p, l, e, R, s, m, args, below, meth, c, nL, G, enc, Q, X, mc, ms, qs⟩ := x
  have hx := zEx hE
  dsimp only at hx
  obtain ⟨rfl, hr, -, -, hlk⟩ := hx
  exact fun ls hls h cb sb H locs cells slots hf hC hO h1 h2 => W.widen (k := mc) (n := ms) (by omega) (by omega) (vx_ret (W.zret hE.1 hE.2.1 hr hn (fun t ht _ => ⟨v, h, rfl, hf, by rw [ht]; exact hC, by rw [ht]; exact hO.1⟩) hO.2.1 d hlk))
theorem zs_zretA {x : ZX Int32} {ty : FieldType} (hE : zE x K cc own nm n F L encI (some ty) xt) {v : Int32} (d : decode cc pc = .ok (.ireturn, 1)) : zS x pc lv [.int v] (zasg (narrow ty (.int v) = .int v) (zret v)) := by
  have k := fun hn => zs_zret (lv := lv) hE (v := v) hn d
  obtain ⟨p, l, e, R, s, m, args, below, meth, c, nL, G, enc, Q, X, mc, ms, qs⟩ := x
  exact fun ls hls h cb sb H locs cells slots hf hC hO h1 h2 => k hf.1 ls hls h cb sb H locs cells slots hf.2 hC hO h1 h2
theorem zs_dret {x : ZX UInt64} (hE : zE x K cc own nm n F L encD (some .double) xt) {v : UInt64} (d : decode cc pc = .ok (.dreturn, 1)) : zS x pc lv [.double v] (zret v) := by
  obtain ⟨p, l, e, R, s, m, args, below, meth, c, nL, G, enc, Q, X, mc, ms, qs⟩ := x
  have hx := zEx hE
  dsimp only at hx
  obtain ⟨rfl, hr, -, -, hlk⟩ := hx
  exact fun ls hls h cb sb H locs cells slots hf hC hO h1 h2 => W.widen (k := mc) (n := ms) (by omega) (by omega) (vx_ret (W.dret hE.1 hE.2.1 hr (fun t ht _ => ⟨v, h, rfl, hf, by rw [ht]; exact hC, by rw [ht]; exact hO.1⟩) hO.2.1 d hlk))
theorem zs_fret {x : ZX UInt32} (hE : zE x K cc own nm n F L encF (some .float) xt) {v : UInt32} (d : decode cc pc = .ok (.freturn, 1)) : zS x pc lv [.float v] (zret v) := by
  obtain ⟨p, l, e, R, s, m, args, below, meth, c, nL, G, enc, Q, X, mc, ms, qs⟩ := x
  have hx := zEx hE
  dsimp only at hx
  obtain ⟨rfl, hr, -, -, hlk⟩ := hx
  exact fun ls hls h cb sb H locs cells slots hf hC hO h1 h2 => W.widen (k := mc) (n := ms) (by omega) (by omega) (vx_ret (W.fret hE.1 hE.2.1 hr (fun t ht _ => ⟨v, h, rfl, hf, by rw [ht]; exact hC, by rw [ht]; exact hO.1⟩) hO.2.1 d hlk))
theorem zs_vret {x : ZX Unit} (hE : zE x K cc own nm n F L encV none xt) (d : decode cc pc = .ok (.return_, 1)) : zS x pc lv [] (zret ()) := by
  obtain ⟨p, l, e, R, s, m, args, below, meth, c, nL, G, enc, Q, X, mc, ms, qs⟩ := x
  have hx := zEx hE
  dsimp only at hx
  obtain ⟨rfl, hr, -, -, hlk⟩ := hx
  exact fun ls hls h cb sb H locs cells slots hf hC hO h1 h2 => W.widen (k := mc) (n := ms) (by omega) (by omega) (vx_ret (W.vret hE.1 hE.2.1 hr (fun t ht _ => ⟨(), h, rfl, hf, by rw [ht]; exact hC, by rw [ht]; exact hO.1⟩) hO.2.1 d hlk))
theorem zs_aret {x : ZX (Option Nat)} {rt : FieldType} (hE : zE x K cc own nm n F L encR (some rt) xt) (hrt : (∃ C, rt = .object C) ∨ ∃ t, rt = .array t) {v : Option Nat} (d : decode cc pc = .ok (.areturn, 1)) : zS x pc lv [va_rf v] (zret v) := by
  obtain ⟨p, l, e, R, s, m, args, below, meth, c, nL, G, enc, Q, X, mc, ms, qs⟩ := x
  have hx := zEx hE
  dsimp only at hx
  obtain ⟨rfl, hr, -, -, hlk⟩ := hx
  exact fun ls hls h cb sb H locs cells slots hf hC hO h1 h2 => W.widen (k := mc) (n := ms) (by omega) (by omega) (vx_ret (W.aret hE.1 hE.2.1 hr hrt (by cases v with
    | none => exact Or.inl rfl
    | some a => exact Or.inr ⟨a, rfl⟩) (fun t ht _ => ⟨v, h, rfl, hf, by rw [ht]; exact hC, by rw [ht]; exact hO.1⟩) hO.2.1 d hlk))
/-! arrays -/
theorem zisA {G : ZG} {s : State} (hV : zV G s) {t : Nat} {ty : FieldType} {A : vp_A} {cell : Cell} (ht : zTY[t]? = some ty) (hvm : cell.vm.isStatics = false) (hz : zcell G (.inl (t, A)) cell) : s.isArrayOf cell ty := by
  obtain ⟨⟨kA, comp, h1, h2⟩, -⟩ := hV.2.1 t ty ht
  exact ⟨znst hvm, kA, by rw [hz.1]; exact h1, comp, h2⟩
theorem zin {G : ZG} {t k : Nat} {A : (Nat → Int32) ⊕ (Nat → Int64) ⊕ (Nat → UInt32) ⊕ (Nat → UInt64) ⊕ (Nat → Option Nat)} {cell : Cell} {i : Int32} (hz : zcell G (.inl (t, k, A)) cell) (hin : vp_in i k) : ¬ (i < 0 ∨ cell.slots.size ≤ i.toNatClampNeg) ∧ cell.slots[i.toNatClampNeg]? = some (zval A i.toNatClampNeg) := by
  obtain ⟨-, h2, h3⟩ := hz
  have h2 : cell.slots.size = k := h2
  exact ⟨by rw [h2]; exact hin, h3 _ (Nat.not_le.mp fun q => hin (Or.inr q))⟩
theorem zcell_set {G : ZG} {t k : Nat} {A B : (Nat → Int32) ⊕ (Nat → Int64) ⊕ (Nat → UInt32) ⊕ (Nat → UInt64) ⊕ (Nat → Option Nat)} {cell : Cell} {i : Nat} {v : Value} (hz : zcell G (.inl (t, k, A)) cell) (hi : i < k) (hv : zval B i = v) (ho : ∀ j, j ≠ i → zval B j = zval A j) : zcell G (.inl (t, k, B)) (cell.setSlot i v) := by
  obtain ⟨h1, h2, h3⟩ := hz
  have h2 : cell.slots.size = k := h2
  refine ⟨h1, by simpa [Cell.setSlot] using h2, fun j hj => ?_⟩
  have hj : j < k := hj
  by_cases hji : j = i
  · subst hji
    have hlt : j < cell.slots.size := by omega
    simp [Cell.setSlot, hlt, hv]
  · show (cell.setSlot i v).slots[j]? = some (zval B j)
    rw [ho j hji]
    have := h3 j hj
    simp only [Cell.setSlot]
    rw [Array.getElem?_setIfInBounds_ne (Ne.symm hji)]
    exact this
theorem zs_len (hE : zE x K cc own nm n F L en ret xt) {t : Nat} {ty : FieldType} (ht : zTY[t]? = some ty) {a : Option Nat} {f : Int32 → ZP β} (d : decode cc pc = .ok (.arraylength, 1)) (kk : ∀ v : Int32, zS x (pc + 1) lv (.int v :: st) (f v)) : zS x pc lv (va_rf a :: st) (zlen a t f) := by
  obtain ⟨p, l, e, R, s, m, args, below, meth, c, nL, G, enc, Q, X, mc, ms, qs⟩ := x
  intro ls hls h cb sb H locs cells slots hf hC hO h1 h2
  unfold zlen at hf
  cases hv : zarr h a t with
  | none => rw [hv] at hf; exact hf.elim
  | some r =>
    obtain ⟨y, k, A⟩ := r
    rw [hv] at hf
    obtain ⟨rfl, hy⟩ := zarr_spec hv
    obtain ⟨cell, q1, q2, q3, q4⟩ := zrd (zEV hE) hC (Or.inl hy)
    exact W.alen (n := Int32.ofNat k) hE.1 hE.2.1 q1 (zisA (zEV hE) ht q3 q4) (by rw [q4.2.1] <;> rfl) rfl rfl d (kk _ ls hls h cb sb H locs cells slots hf hC hO h1 h2)
theorem zs_lenK (hE : zE x K cc own nm n F L en ret xt) {t : Nat} {ty : FieldType} (ht : zTY[t]? = some ty) {a : Option Nat} {f : Int32 → ZP β} (d : decode cc pc = .ok (.arraylength, 1)) (kk : ∀ v : Int32, zS x (pc + 1) lv (.int v :: st) (f v)) : zS x pc lv (va_rf a :: st) (zlenK K a t f) := by
  obtain ⟨p, l, e, R, s, m, args, below, meth, c, nL, G, enc, Q, X, mc, ms, qs⟩ := x
  have hK := zEK hE
  dsimp only at hK
  subst hK
  intro ls hls h cb sb H locs cells slots hf hC hO h1 h2
  obtain ⟨y, k, A, hv, hf⟩ := hf
  have key : a = some y ∧ (h y = some (.inl (t, k, A)) ∨ G.2.2.2.2 y = some (.inl (t, k, A))) := by
    rcases hv with hv | hv
    · exact ⟨(zarr_spec hv).1, Or.inl (zarr_spec hv).2⟩
    · exact ⟨(zarr_spec hv).1, Or.inr (zarr_spec hv).2⟩
  obtain ⟨rfl, hy⟩ := key
  obtain ⟨cell, q1, q2, q3, q4⟩ := zrd (zEV hE) hC hy
  exact W.alen (n := Int32.ofNat k) hE.1 hE.2.1 q1 (zisA (zEV hE) ht q3 q4) (by rw [q4.2.1] <;> rfl) rfl rfl d (kk _ ls hls h cb sb H locs cells slots hf hC hO h1 h2)
theorem zs_ald (hE : zE x K cc own nm n F L en ret xt) {a : Option Nat} {i : Int32} {f : Int32 → ZP β} (d : decode cc pc = .ok (.iaload, 1)) (kk : ∀ v : Int32, zS x (pc + 1) lv (.int v :: st) (f v)) : zS x pc lv (.int i :: va_rf a :: st) (zald a 0 i f) := by
  obtain ⟨p, l, e, R, s, m, args, below, meth, c, nL, G, enc, Q, X, mc, ms, qs⟩ := x
  intro ls hls h cb sb H locs cells slots hf hC hO h1 h2
  unfold zald at hf
  cases hv : zarI h a 0 with
  | none => rw [hv] at hf; exact hf.elim
  | some r =>
    obtain ⟨y, k, g0⟩ := r
    rw [hv] at hf
    obtain ⟨rfl, hy⟩ := zarI_spec hv
    obtain ⟨cell, q1, q2, q3, q4⟩ := zrd (zEV hE) hC (Or.inl hy)
    obtain ⟨z1, z2⟩ := zin q4 hf.1
    exact W.iald (v := .int (g0 i.toNatClampNeg)) hE.1 hE.2.1 q1 (zisA (zEV hE) (ty := .int) rfl q3 q4) q2 z1 z2 rfl rfl d (kk _ ls hls h cb sb H locs cells slots hf.2 hC hO h1 h2)
theorem zs_aldJ (hE : zE x K cc own nm n F L en ret xt) {a : Option Nat} {i : Int32} {f : Int64 → ZP β} (d : decode cc pc = .ok (.laload, 1)) (kk : ∀ v : Int64, zS x (pc + 1) lv (.long v :: st) (f v)) : zS x pc lv (.int i :: va_rf a :: st) (zaldJ a 1 i f) := by
  obtain ⟨p, l, e, R, s, m, args, below, meth, c, nL, G, enc, Q, X, mc, ms, qs⟩ := x
  intro ls hls h cb sb H locs cells slots hf hC hO h1 h2
  unfold zaldJ at hf
  cases hv : zarJ h a 1 with
  | none => rw [hv] at hf; exact hf.elim
  | some r =>
    obtain ⟨y, k, g0⟩ := r
    rw [hv] at hf
    obtain ⟨rfl, hy⟩ := zarJ_spec hv
    obtain ⟨cell, q1, q2, q3, q4⟩ := zrd (zEV hE) hC (Or.inl hy)
    obtain ⟨z1, z2⟩ := zin q4 hf.1
    exact W.lald (v := .long (g0 i.toNatClampNeg)) hE.1 hE.2.1 q1 (zisA (zEV hE) (ty := .long) rfl q3 q4) q2 z1 z2 rfl rfl d (kk _ ls hls h cb sb H locs cells slots hf.2 hC hO h1 h2)
theorem zs_aldD (hE : zE x K cc own nm n F L en ret xt) {a : Option Nat} {i : Int32} {f : UInt64 → ZP β} (d : decode cc pc = .ok (.daload, 1)) (kk : ∀ v : UInt64, zS x (pc + 1) lv (.double v :: st) (f v)) : zS x pc lv (.int i :: va_rf a :: st) (zaldD a 2 i f) := by
  obtain ⟨p, l, e, R, s, m, args, below, meth, c, nL, G, enc, Q, X, mc, ms, qs⟩ := x
  intro ls hls h cb sb H locs cells slots hf hC hO h1 h2
  unfold zaldD at hf
  cases hv : zarD h a 2 with
  | none => rw [hv] at hf; exact hf.elim
  | some r =>
    obtain ⟨y, k, g0⟩ := r
    rw [hv] at hf
    obtain ⟨rfl, hy⟩ := zarD_spec hv
    obtain ⟨cell, q1, q2, q3, q4⟩ := zrd (zEV hE) hC (Or.inl hy)
    obtain ⟨z1, z2⟩ := zin q4 hf.1
    exact W.dald (v := .double (g0 i.toNatClampNeg)) hE.1 hE.2.1 q1 (zisA (zEV hE) (ty := .double) rfl q3 q4) q2 z1 z2 rfl rfl d (kk _ ls hls h cb sb H locs cells slots hf.2 hC hO h1 h2)
theorem zs_aldR (hE : zE x K cc own nm n F L en ret xt) {a : Option Nat} {i : Int32} {f : Option Nat → ZP β} (d : decode cc pc = .ok (.aaload, 1)) (kk : ∀ v : Option Nat, zS x (pc + 1) lv (va_rf v :: st) (f v)) : zS x pc lv (.int i :: va_rf a :: st) (zaldR a 4 i f) := by
  obtain ⟨p, l, e, R, s, m, args, below, meth, c, nL, G, enc, Q, X, mc, ms, qs⟩ := x
  intro ls hls h cb sb H locs cells slots hf hC hO h1 h2
  unfold zaldR at hf
  cases hv : zarR h a 4 with
  | none => rw [hv] at hf; exact hf.elim
  | some r =>
    obtain ⟨y, k, g0⟩ := r
    rw [hv] at hf
    obtain ⟨rfl, hy⟩ := zarR_spec hv
    obtain ⟨cell, q1, q2, q3, q4⟩ := zrd (zEV hE) hC (Or.inl hy)
    obtain ⟨z1, z2⟩ := zin q4 hf.1
    exact W.aald (v := va_rf (g0 i.toNatClampNeg)) hE.1 hE.2.1 q1 (zisA (zEV hE) (ty := .object "java/lang/Object") rfl q3 q4) rfl q2 z1 z2 rfl rfl d (kk _ ls hls h cb sb H locs cells slots hf.2 hC hO h1 h2)
theorem zs_aldRK (hE : zE x K cc own nm n F L en ret xt) {a : Option Nat} {i : Int32} {f : Option Nat → ZP β} (d : decode cc pc = .ok (.aaload, 1)) (kk : ∀ v : Option Nat, zS x (pc + 1) lv (va_rf v :: st) (f v)) : zS x pc lv (.int i :: va_rf a :: st) (zaldRK K a 5 i f) := by
  obtain ⟨p, l, e, R, s, m, args, below, meth, c, nL, G, enc, Q, X, mc, ms, qs⟩ := x
  have hK := zEK hE
  dsimp only at hK
  subst hK
  intro ls hls h cb sb H locs cells slots hf hC hO h1 h2
  obtain ⟨y, k, g0, hv, hf⟩ := hf
  have key : a = some y ∧ (h y = some (.inl (5, k, .inr (.inr (.inr (.inr g0))))) ∨ G.2.2.2.2 y = some (.inl (5, k, .inr (.inr (.inr (.inr g0)))))) := by
    rcases hv with hv | hv
    · exact ⟨(zarR_spec hv).1, Or.inl (zarR_spec hv).2⟩
    · exact ⟨(zarR_spec hv).1, Or.inr (zarR_spec hv).2⟩
  obtain ⟨rfl, hy⟩ := key
  obtain ⟨cell, q1, q2, q3, q4⟩ := zrd (zEV hE) hC hy
  obtain ⟨z1, z2⟩ := zin q4 hf.1
  exact W.aald (v := va_rf (g0 i.toNatClampNeg)) hE.1 hE.2.1 q1 (zisA (zEV hE) (ty := .object "java/lang/Integer") rfl q3 q4) rfl q2 z1 z2 rfl rfl d (kk _ ls hls h cb sb H locs cells slots hf.2 hC hO h1 h2)
theorem zs_aldK (hE : zE x K cc own nm n F L en ret xt) {a : Option Nat} {i : Int32} {f : Int32 → ZP β} (d : decode cc pc = .ok (.baload, 1)) (kk : ∀ v : Int32, zS x (pc + 1) lv (.int v :: st) (f v)) : zS x pc lv (.int i :: va_rf a :: st) (zaldK K a 3 i f) := by
  obtain ⟨p, l, e, R, s, m, args, below, meth, c, nL, G, enc, Q, X, mc, ms, qs⟩ := x
  have hK := zEK hE
  dsimp only at hK
  subst hK
  intro ls hls h cb sb H locs cells slots hf hC hO h1 h2
  obtain ⟨y, k, g0, hv, hf⟩ := hf
  have key : a = some y ∧ (h y = some (.inl (3, k, .inl g0)) ∨ G.2.2.2.2 y = some (.inl (3, k, .inl g0))) := by
    rcases hv with hv | hv
    · exact ⟨(zarI_spec hv).1, Or.inl (zarI_spec hv).2⟩
    · exact ⟨(zarI_spec hv).1, Or.inr (zarI_spec hv).2⟩
  obtain ⟨rfl, hy⟩ := key
  obtain ⟨cell, q1, q2, q3, q4⟩ := zrd (zEV hE) hC hy
  obtain ⟨z1, z2⟩ := zin q4 hf.1
  exact W.bald (v := .int (g0 i.toNatClampNeg)) hE.1 hE.2.1 q1 (zisA (zEV hE) (ty := .byte) rfl q3 q4) q2 z1 z2 rfl rfl d (kk _ ls hls h cb sb H locs cells slots hf.2 hC hO h1 h2)
theorem zs_aldB (hE : zE x K cc own nm n F L en ret xt) {a : Option Nat} {i : Int32} {f : Int32 → ZP β} (d : decode cc pc = .ok (.baload, 1)) (kk : ∀ v : Int32, zS x (pc + 1) lv (.int v :: st) (f v)) : zS x pc lv (.int i :: va_rf a :: st) (zald a 3 i f) := by
  obtain ⟨p, l, e, R, s, m, args, below, meth, c, nL, G, enc, Q, X, mc, ms, qs⟩ := x
  intro ls hls h cb sb H locs cells slots hf hC hO h1 h2
  unfold zald at hf
  cases hv : zarI h a 3 with
  | none => rw [hv] at hf; exact hf.elim
  | some r =>
    obtain ⟨y, k, g0⟩ := r
    rw [hv] at hf
    obtain ⟨rfl, hy⟩ := zarI_spec hv
    obtain ⟨cell, q1, q2, q3, q4⟩ := zrd (zEV hE) hC (Or.inl hy)
    obtain ⟨z1, z2⟩ := zin q4 hf.1
    exact W.bald (v := .int (g0 i.toNatClampNeg)) hE.1 hE.2.1 q1 (zisA (zEV hE) (ty := .byte) rfl q3 q4) q2 z1 z2 rfl rfl d (kk _ ls hls h cb sb H locs cells slots hf.2 hC hO h1 h2)
theorem zs_aldKI (hE : zE x K cc own nm n F L en ret xt) {a : Option Nat} {i : Int32} {f : Int32 → ZP β} (d : decode cc pc = .ok (.iaload, 1)) (kk : ∀ v : Int32, zS x (pc + 1) lv (.int v :: st) (f v)) : zS x pc lv (.int i :: va_rf a :: st) (zaldK K a 6 i f) := by
  obtain ⟨p, l, e, R, s, m, args, below, meth, c, nL, G, enc, Q, X, mc, ms, qs⟩ := x
  have hK := zEK hE
  dsimp only at hK
  subst hK
  intro ls hls h cb sb H locs cells slots hf hC hO h1 h2
  obtain ⟨y, k, g0, hv, hf⟩ := hf
  have key : a = some y ∧ (h y = some (.inl (6, k, .inl g0)) ∨ G.2.2.2.2 y = some (.inl (6, k, .inl g0))) := by
    rcases hv with hv | hv
    · exact ⟨(zarI_spec hv).1, Or.inl (zarI_spec hv).2⟩
    · exact ⟨(zarI_spec hv).1, Or.inr (zarI_spec hv).2⟩
  obtain ⟨rfl, hy⟩ := key
  obtain ⟨cell, q1, q2, q3, q4⟩ := zrd (zEV hE) hC hy
  obtain ⟨z1, z2⟩ := zin q4 hf.1
  exact W.iald (v := .int (g0 i.toNatClampNeg)) hE.1 hE.2.1 q1 (zisA (zEV hE) (ty := .int) rfl q3 q4) q2 z1 z2 rfl rfl d (kk _ ls hls h cb sb H locs cells slots hf.2 hC hO h1 h2)
theorem zs_ast (hE : zE x K cc own nm n F L en ret xt) {a : Option Nat} {i : Int32} {v : Int32} (d : decode cc pc = .ok (.iastore, 1)) (kk : zS x (pc + 1) lv st f) : zS x pc lv (.int v :: .int i :: va_rf a :: st) (zast a i v f) := by
  obtain ⟨p, l, e, R, s, m, args, below, meth, c, nL, G, enc, Q, X, mc, ms, qs⟩ := x
  intro ls hls h cb sb H locs cells slots hf hC hO h1 h2
  unfold zast at hf
  cases hv : zarI h a 0 with
  | none => rw [hv] at hf; exact hf.elim
  | some r =>
    obtain ⟨y, k, g0⟩ := r
    rw [hv] at hf
    obtain ⟨rfl, hy⟩ := zarI_spec hv
    obtain ⟨hA, cell, q1, q2, q4⟩ := hC.1 y _ hy
    have q3 : cell.vm.isStatics = false := by rw [q2]; rfl
    obtain ⟨z1, z2⟩ := zin q4 hf.1
    refine W.iast hE.1 hE.2.1 q1 (zisA (zEV hE) (ty := .int) rfl q3 q4) (by rw [q2]; exact fun z => nomatch z) z1 rfl rfl d fun H1 e1 e2 e3 => kk ls hls _ cb sb H1 _ cells slots hf.2 (zC_put hC hy e1 q2 (zcell_set q4 (Nat.not_le.mp fun q => hf.1 (Or.inr q)) ?_ ?_) e2 e3) (zO_put hO hA q1 e1 e3) h1 h2
    · simp [zval, upd]
      try rfl
    · intro j hj
      simp [zval, upd, hj]
theorem zs_astB (hE : zE x K cc own nm n F L en ret xt) {a : Option Nat} {i : Int32} {v : Int32} (d : decode cc pc = .ok (.bastore, 1)) (kk : zS x (pc + 1) lv st f) : zS x pc lv (.int v :: .int i :: va_rf a :: st) (zastB a i v f) := by
  obtain ⟨p, l, e, R, s, m, args, below, meth, c, nL, G, enc, Q, X, mc, ms, qs⟩ := x
  intro ls hls h cb sb H locs cells slots hf hC hO h1 h2
  unfold zastB at hf
  cases hv : zarI h a 3 with
  | none => rw [hv] at hf; exact hf.elim
  | some r =>
    obtain ⟨y, k, g0⟩ := r
    rw [hv] at hf
    obtain ⟨rfl, hy⟩ := zarI_spec hv
    obtain ⟨hA, cell, q1, q2, q4⟩ := hC.1 y _ hy
    have q3 : cell.vm.isStatics = false := by rw [q2]; rfl
    obtain ⟨z1, z2⟩ := zin q4 hf.1
    refine W.bast hE.1 hE.2.1 q1 (zisA (zEV hE) (ty := .byte) rfl q3 q4) (by rw [q2]; exact fun z => nomatch z) z1 rfl rfl d fun H1 e1 e2 e3 => kk ls hls _ cb sb H1 _ cells slots hf.2 (zC_put hC hy e1 q2 (zcell_set q4 (Nat.not_le.mp fun q => hf.1 (Or.inr q)) ?_ ?_) e2 e3) (zO_put hO hA q1 e1 e3) h1 h2
    · simp [zval, upd, vp_nar]
      try rfl
    · intro j hj
      simp [zval, upd, vp_nar, hj]
theorem zs_astJ (hE : zE x K cc own nm n F L en ret xt) {a : Option Nat} {i : Int32} {v : Int64} (d : decode cc pc = .ok (.lastore, 1)) (kk : zS x (pc + 1) lv st f) : zS x pc lv (.long v :: .int i :: va_rf a :: st) (zastJ a i v f) := by
  obtain ⟨p, l, e, R, s, m, args, below, meth, c, nL, G, enc, Q, X, mc, ms, qs⟩ := x
  intro ls hls h cb sb H locs cells slots hf hC hO h1 h2
  unfold zastJ at hf
  cases hv : zarJ h a 1 with
  | none => rw [hv] at hf; exact hf.elim
  | some r =>
    obtain ⟨y, k, g0⟩ := r
    rw [hv] at hf
    obtain ⟨rfl, hy⟩ := zarJ_spec hv
    obtain ⟨hA, cell, q1, q2, q4⟩ := hC.1 y _ hy
    have q3 : cell.vm.isStatics = false := by rw [q2]; rfl
    obtain ⟨z1, z2⟩ := zin q4 hf.1
    refine W.last hE.1 hE.2.1 q1 (zisA (zEV hE) (ty := .long) rfl q3 q4) (by rw [q2]; exact fun z => nomatch z) z1 rfl rfl d fun H1 e1 e2 e3 => kk ls hls _ cb sb H1 _ cells slots hf.2 (zC_put hC hy e1 q2 (zcell_set q4 (Nat.not_le.mp fun q => hf.1 (Or.inr q)) ?_ ?_) e2 e3) (zO_put hO hA q1 e1 e3) h1 h2
    · simp [zval, vp_updL]
      try rfl
    · intro j hj
      simp [zval, vp_updL, hj]
theorem zs_astD (hE : zE x K cc own nm n F L en ret xt) {a : Option Nat} {i : Int32} {v : UInt64} (d : decode cc pc = .ok (.dastore, 1)) (kk : zS x (pc + 1) lv st f) : zS x pc lv (.double v :: .int i :: va_rf a :: st) (zastD a i v f) := by
  obtain ⟨p, l, e, R, s, m, args, below, meth, c, nL, G, enc, Q, X, mc, ms, qs⟩ := x
  intro ls hls h cb sb H locs cells slots hf hC hO h1 h2
  unfold zastD at hf
  cases hv : zarD h a 2 with
  | none => rw [hv] at hf; exact hf.elim
  | some r =>
    obtain ⟨y, k, g0⟩ := r
    rw [hv] at hf
    obtain ⟨rfl, hy⟩ := zarD_spec hv
    obtain ⟨hA, cell, q1, q2, q4⟩ := hC.1 y _ hy
    have q3 : cell.vm.isStatics = false := by rw [q2]; rfl
    obtain ⟨z1, z2⟩ := zin q4 hf.1
    refine W.dast hE.1 hE.2.1 q1 (zisA (zEV hE) (ty := .double) rfl q3 q4) (by rw [q2]; exact fun z => nomatch z) z1 rfl rfl d fun H1 e1 e2 e3 => kk ls hls _ cb sb H1 _ cells slots hf.2 (zC_put hC hy e1 q2 (zcell_set q4 (Nat.not_le.mp fun q => hf.1 (Or.inr q)) ?_ ?_) e2 e3) (zO_put hO hA q1 e1 e3) h1 h2
    · simp [zval, vf_upd]
      try rfl
    · intro j hj
      simp [zval, vf_upd, hj]
end ZR4
