/-! ===== P-LAYER: programs over an abstract heap, as predicate transformers ===== -/
abbrev ZH : Type := Nat → Option va_E
abbrev ZP (β : Type) : Type := ZH → Nat → Nat → (β → ZH → Prop) → (Nat → ZH → Prop) → Prop
/-- the constants: addresses of static references, strings; the cells that are never written -/
abbrev ZK : Type := (Nat → Nat) × ZH
/-- a static of which nobody asks what it holds -/
def zoptK (K : ZK) : Option Nat := if K.1 5 = 0 then none else some (K.1 5 - 1)
def zup (h : ZH) (a : Nat) (e : va_E) : ZH := fun x => if x = a then some e else h x
theorem zup_s {h : ZH} {a : Nat} {e : va_E} : zup h a e a = some e := by simp [zup]
theorem zup_n {h : ZH} {a b : Nat} {e : va_E} (n : b ≠ a) : zup h a e b = h b := by simp [zup, n]
def zret {β : Type} (v : β) : ZP β := fun h _ _ Q _ => Q v h
def zbad {β : Type} : ZP β := fun _ _ _ _ _ => False
/-- throw new E(): E by its number -/
def zthrow {β : Type} (ci : Nat) : ZP β := fun h c s _ X => 1 ≤ c ∧ 6 ≤ s ∧ X ci h
/-- an exception goes on -/
def zrethrow {β : Type} (ci : Nat) : ZP β := fun h _ _ _ X => X ci h
def zif {β : Type} (p : Prop) (f g : ZP β) : ZP β := fun h c s Q X => (p → f h c s Q X) ∧ (¬ p → g h c s Q X)
def zsw {β : Type} (x : Int32) : List (Int32 × ZP β) → ZP β → ZP β
  | [], d => d
  | (k, f) :: l, d => zif (x = k) f (zsw x l d)
def zasg {β : Type} (p : Prop) (f : ZP β) : ZP β := fun h c s Q X => p ∧ f h c s Q X
/-! objects -/
def zobj (h : ZH) (a : Option Nat) (ci : Nat) : Option (Nat × List Value) := match a with
  | some x => match h x with
    | some (.inr (cj, fs)) => if cj = ci then some (x, fs) else none
    | _ => none
  | none => none
def zfI (h : ZH) (a : Option Nat) (ci k : Nat) : Option Int32 := match zobj h a ci with
  | some (_, fs) => match fs[k]? with
    | some (.int v) => some v
    | _ => none
  | none => none
def zfR (h : ZH) (a : Option Nat) (ci k : Nat) : Option (Option Nat) := match zobj h a ci with
  | some (_, fs) => match fs[k]? with
    | some .null => some none
    | some (.ref x) => some (some x)
    | _ => none
  | none => none
def zgetI {β : Type} (a : Option Nat) (ci k : Nat) (f : Int32 → ZP β) : ZP β := fun h c s Q X => match zfI h a ci k with
  | some v => f v h c s Q X
  | none => False
def zgetR {β : Type} (a : Option Nat) (ci k : Nat) (f : Option Nat → ZP β) : ZP β := fun h c s Q X => match zfR h a ci k with
  | some v => f v h c s Q X
  | none => False
/-- of an object that may be a constant -/
def zgetIK {β : Type} (K : ZK) (a : Option Nat) (ci k : Nat) (f : Int32 → ZP β) : ZP β := fun h c s Q X => ∃ v : Int32, (zfI h a ci k = some v ∨ zfI K.2 a ci k = some v) ∧ f v h c s Q X
def zgetRK {β : Type} (K : ZK) (a : Option Nat) (ci k : Nat) (f : Option Nat → ZP β) : ZP β := fun h c s Q X => ∃ v : Option Nat, (zfR h a ci k = some v ∨ zfR K.2 a ci k = some v) ∧ f v h c s Q X
def zputI {β : Type} (a : Option Nat) (ci k : Nat) (v : Int32) (f : ZP β) : ZP β := fun h c s Q X => match zobj h a ci with
  | some (x, fs) => k < fs.length ∧ f (zup h x (.inr (ci, fs.set k (.int v)))) c s Q X
  | none => False
/-- a field of boolean, byte .. -/
def zputT {β : Type} (ty : FieldType) (a : Option Nat) (ci k : Nat) (v : Int32) (f : ZP β) : ZP β := fun h c s Q X => match zobj h a ci with
  | some (x, fs) => (narrow ty (.int v) = .int v ∧ fits ty (.int v) = true) ∧ k < fs.length ∧ f (zup h x (.inr (ci, fs.set k (.int v)))) c s Q X
  | none => False
def zputR {β : Type} (a : Option Nat) (ci k : Nat) (v : Option Nat) (f : ZP β) : ZP β := fun h c s Q X => match zobj h a ci with
  | some (x, fs) => k < fs.length ∧ f (zup h x (.inr (ci, fs.set k (va_rf v)))) c s Q X
  | none => False
def znew {β : Type} (K : ZK) (ci N : Nat) (fs : List Value) (f : Nat → ZP β) : ZP β := fun h c s Q X => 1 ≤ c ∧ N ≤ s ∧ ∀ q : Nat, h q = none → K.2 q = none → f q (zup h q (.inr (ci, fs))) (c - 1) (s - N) Q X
/-! arrays: types by number: 0 int, 1 long, 2 double, 3 byte, 4 Object, 5 Integer -/
def zarr (h : ZH) (a : Option Nat) (t : Nat) : Option (Nat × vp_A) := match a with
  | some x => match h x with
    | some (.inl (tj, A)) => if tj = t then some (x, A) else none
    | _ => none
  | none => none
def zarI (h : ZH) (a : Option Nat) (t : Nat) : Option (Nat × Nat × (Nat → Int32)) := match zarr h a t with
  | some (x, n, .inl g) => some (x, n, g)
  | _ => none
def zarJ (h : ZH) (a : Option Nat) (t : Nat) : Option (Nat × Nat × (Nat → Int64)) := match zarr h a t with
  | some (x, n, .inr (.inl g)) => some (x, n, g)
  | _ => none
def zarD (h : ZH) (a : Option Nat) (t : Nat) : Option (Nat × Nat × (Nat → UInt64)) := match zarr h a t with
  | some (x, n, .inr (.inr (.inr (.inl g)))) => some (x, n, g)
  | _ => none
def zarR (h : ZH) (a : Option Nat) (t : Nat) : Option (Nat × Nat × (Nat → Option Nat)) := match zarr h a t with
  | some (x, n, .inr (.inr (.inr (.inr g)))) => some (x, n, g)
  | _ => none
def zlen {β : Type} (a : Option Nat) (t : Nat) (f : Int32 → ZP β) : ZP β := fun h c s Q X => match zarr h a t with
  | some (_, n, _) => f (Int32.ofNat n) h c s Q X
  | none => False
def zlenK {β : Type} (K : ZK) (a : Option Nat) (t : Nat) (f : Int32 → ZP β) : ZP β := fun h c s Q X => ∃ (x n : Nat) (A : (Nat → Int32) ⊕ (Nat → Int64) ⊕ (Nat → UInt32) ⊕ (Nat → UInt64) ⊕ (Nat → Option Nat)), (zarr h a t = some (x, n, A) ∨ zarr K.2 a t = some (x, n, A)) ∧ f (Int32.ofNat n) h c s Q X
def zald {β : Type} (a : Option Nat) (t : Nat) (i : Int32) (f : Int32 → ZP β) : ZP β := fun h c s Q X => match zarI h a t with
  | some (_, n, g) => vp_in i n ∧ f (g i.toNatClampNeg) h c s Q X
  | none => False
def zaldK {β : Type} (K : ZK) (a : Option Nat) (t : Nat) (i : Int32) (f : Int32 → ZP β) : ZP β := fun h c s Q X => ∃ (x n : Nat) (g : Nat → Int32), (zarI h a t = some (x, n, g) ∨ zarI K.2 a t = some (x, n, g)) ∧ vp_in i n ∧ f (g i.toNatClampNeg) h c s Q X
def zaldJ {β : Type} (a : Option Nat) (t : Nat) (i : Int32) (f : Int64 → ZP β) : ZP β := fun h c s Q X => match zarJ h a t with
  | some (_, n, g) => vp_in i n ∧ f (g i.toNatClampNeg) h c s Q X
  | none => False
def zaldD {β : Type} (a : Option Nat) (t : Nat) (i : Int32) (f : UInt64 → ZP β) : ZP β := fun h c s Q X => match zarD h a t with
  | some (_, n, g) => vp_in i n ∧ f (g i.toNatClampNeg) h c s Q X
  | none => False
def zaldR {β : Type} (a : Option Nat) (t : Nat) (i : Int32) (f : Option Nat → ZP β) : ZP β := fun h c s Q X => match zarR h a t with
  | some (_, n, g) => vp_in i n ∧ f (g i.toNatClampNeg) h c s Q X
  | none => False
def zaldRK {β : Type} (K : ZK) (a : Option Nat) (t : Nat) (i : Int32) (f : Option Nat → ZP β) : ZP β := fun h c s Q X => ∃ (x n : Nat) (g : Nat → Option Nat), (zarR h a t = some (x, n, g) ∨ zarR K.2 a t = some (x, n, g)) ∧ vp_in i n ∧ f (g i.toNatClampNeg) h c s Q X
def zast {β : Type} (a : Option Nat) (i v : Int32) (f : ZP β) : ZP β := fun h c s Q X => match zarI h a 0 with
  | some (x, n, g) => vp_in i n ∧ f (zup h x (.inl (0, n, .inl (upd g i.toNatClampNeg v)))) c s Q X
  | none => False
def zastB {β : Type} (a : Option Nat) (i v : Int32) (f : ZP β) : ZP β := fun h c s Q X => match zarI h a 3 with
  | some (x, n, g) => vp_in i n ∧ f (zup h x (.inl (3, n, .inl (upd g i.toNatClampNeg (vp_nar .byte v))))) c s Q X
  | none => False
def zastJ {β : Type} (a : Option Nat) (i : Int32) (v : Int64) (f : ZP β) : ZP β := fun h c s Q X => match zarJ h a 1 with
  | some (x, n, g) => vp_in i n ∧ f (zup h x (.inl (1, n, .inr (.inl (vp_updL g i.toNatClampNeg v))))) c s Q X
  | none => False
def zastD {β : Type} (a : Option Nat) (i : Int32) (v : UInt64) (f : ZP β) : ZP β := fun h c s Q X => match zarD h a 2 with
  | some (x, n, g) => vp_in i n ∧ f (zup h x (.inl (2, n, .inr (.inr (.inr (.inl (vf_upd g i.toNatClampNeg v))))))) c s Q X
  | none => False
/-- null, or a known object -/
def zkno (h : ZH) (v : Option Nat) : Prop := match v with
  | some y => match h y with
    | some (.inr _) => True
    | _ => False
  | none => True
def zastR {β : Type} (a : Option Nat) (i : Int32) (v : Option Nat) (f : ZP β) : ZP β := fun h c s Q X => match zarR h a 4 with
  | some (x, n, g) => vp_in i n ∧ zkno h v ∧ f (zup h x (.inl (4, n, .inr (.inr (.inr (.inr (va_up g i.toNatClampNeg v))))))) c s Q X
  | none => False
/-- a new array: a0 holds the default contents -/
def znewA {β : Type} (K : ZK) (t : Nat) (n : Int32) (a0 : (Nat → Int32) ⊕ (Nat → Int64) ⊕ (Nat → UInt32) ⊕ (Nat → UInt64) ⊕ (Nat → Option Nat)) (f : Nat → ZP β) : ZP β := fun h c s Q X => ¬ n < 0 ∧ n.toNatClampNeg ≤ 1000000 ∧ 1 ≤ c ∧ n.toNatClampNeg ≤ s ∧ ∀ q : Nat, h q = none → K.2 q = none → f q (zup h q (.inl (t, n.toNatClampNeg, a0))) (c - 1) (s - n.toNatClampNeg) Q X
/-- System.arraycopy of references (type 4), of bytes (type 3); the source may be a constant -/
def zcopyR {β : Type} (src : Option Nat) (sp : Int32) (dst : Option Nat) (dp n : Int32) (f : ZP β) : ZP β := fun h c s Q X => match zarR h src 4, zarR h dst 4 with
  | some (_, n0, g0), some (x, n1, g1) => (¬ sp < 0 ∧ ¬ dp < 0 ∧ ¬ n < 0 ∧ sp.toNatClampNeg + n.toNatClampNeg ≤ n0 ∧ dp.toNatClampNeg + n.toNatClampNeg ≤ n1 ∧ ∀ i, i < n.toNatClampNeg → zkno h (g0 (sp.toNatClampNeg + i))) ∧ f (zup h x (.inl (4, n1, .inr (.inr (.inr (.inr (va_cpy g0 g1 sp.toNatClampNeg dp.toNatClampNeg n.toNatClampNeg))))))) c s Q X
  | _, _ => False
def zcopyB {β : Type} (K : ZK) (src : Option Nat) (sp : Int32) (dst : Option Nat) (dp n : Int32) (f : ZP β) : ZP β := fun h c s Q X => ∃ (y n0 : Nat) (g0 : Nat → Int32), (zarI h src 3 = some (y, n0, g0) ∨ zarI K.2 src 3 = some (y, n0, g0)) ∧ match zarI h dst 3 with
  | some (x, n1, g1) => (¬ sp < 0 ∧ ¬ dp < 0 ∧ ¬ n < 0 ∧ sp.toNatClampNeg + n.toNatClampNeg ≤ n0 ∧ dp.toNatClampNeg + n.toNatClampNeg ≤ n1 ∧ ∀ i, i < n.toNatClampNeg → fits .byte (.int (g0 (sp.toNatClampNeg + i))) = true) ∧ f (zup h x (.inl (3, n1, .inl (va_cpy g0 g1 sp.toNatClampNeg dp.toNatClampNeg n.toNatClampNeg)))) c s Q X
  | none => False
/-! calls -/
def zcall {α β : Type} (m : ZP α) (f : α → ZP β) : ZP β := fun h c s Q X => ∃ mc ms : Nat, mc ≤ c ∧ ms ≤ s ∧ m h mc ms (fun r h' => f r h' (c - mc) (s - ms) Q X) X
def zcallV {α β : Type} (a : Option Nat) (ci : Nat) (m : Nat → ZP α) (f : α → ZP β) : ZP β := fun h c s Q X => match zobj h a ci with
  | some (x, _) => zcall (m x) f h c s Q X
  | none => False
def zcallVK {α β : Type} (K : ZK) (a : Option Nat) (ci : Nat) (m : Nat → ZP α) (f : α → ZP β) : ZP β := fun h c s Q X => ∃ (x : Nat) (fs : List Value), (zobj h a ci = some (x, fs) ∨ zobj K.2 a ci = some (x, fs)) ∧ zcall (m x) f h c s Q X
/-- a call whose exceptions are caught: by the class's number -/
def zcallT {α β : Type} (m : ZP α) (hs : List (Nat × ZP β)) (f : α → ZP β) : ZP β := fun h c s Q X => ∃ mc ms : Nat, mc ≤ c ∧ ms ≤ s ∧ m h mc ms (fun r h' => f r h' (c - mc) (s - ms) Q X) (fun E h' => ∃ k, hs.lookup E = some k ∧ k h' (c - mc) (s - ms) Q X)
def zcallVT {α β : Type} (a : Option Nat) (ci : Nat) (m : Nat → ZP α) (hs : List (Nat × ZP β)) (f : α → ZP β) : ZP β := fun h c s Q X => match zobj h a ci with
  | some (x, _) => zcallT (m x) hs f h c s Q X
  | none => False
/-- what runs, by the class of the receiver -/
def zdisp {β : Type} (a : Option Nat) (l : List (Nat × ZP β)) : ZP β := fun h c s Q X => ∃ (ci : Nat) (fs : List Value) (x : Nat) (f : ZP β), (a = some x ∧ h x = some (.inr (ci, fs))) ∧ (ci, f) ∈ l ∧ f h c s Q X
def zcast {β : Type} (a : Option Nat) (cs : List Nat) (f : ZP β) : ZP β := fun h c s Q X => match a with
  | some x => match h x with
    | some (.inr (cj, _)) => cj ∈ cs ∧ f h c s Q X
    | _ => False
  | none => f h c s Q X
def zcastK {β : Type} (K : ZK) (a : Option Nat) (cs : List Nat) (f : ZP β) : ZP β := fun h c s Q X => (∃ (x cj : Nat) (fs : List Value), a = some x ∧ (h x = some (.inr (cj, fs)) ∨ K.2 x = some (.inr (cj, fs))) ∧ cj ∈ cs ∨ a = none) ∧ f h c s Q X
/-- a loop: proved by an invariant with a measure -/
def zloop {σ β : Type} (body : (σ → ZP β) → σ → ZP β) (v : σ) : ZP β := fun h c s Q X => ∃ (I : Nat → σ → ZH → Nat → Nat → Prop) (n : Nat), I n v h c s ∧ ∀ (n : Nat) (v : σ) (h : ZH) (c s : Nat), I n v h c s → body (fun v' h' c' s' _ _ => ∃ n' : Nat, n' < n ∧ I n' v' h' c' s') v h c s Q X
