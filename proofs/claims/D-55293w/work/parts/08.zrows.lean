/-! ===== SIM-LAYER: what ties the abstract heap to the machine ===== -/
abbrev ZG : Type := va_G × (Nat → ClassId) × Heap × ZK
def zTY : List FieldType := [.int, .long, .double, .byte, .object "java/lang/Object", .object "java/lang/Integer", .int]
def zCL : List vw_C := [(RJ1, TJ1, 9), (RJ11, TJ11, 6), (RJ13, TJ13, 1), (RJ21, TJ21, 1), (RJ22, TJ22, 4), (RJ23, TJ23, 4), (RJ25, TJ25, 5), (RJ27, TJ27, 4), (RJ28, TJ28, 4), (RJ29, TJ29, 6), (RJ3, TJ3, 3), (RJ31, TJ31, 3), (RJ33, TJ33, 6), (RJ34, TJ34, 6), (RJ35, TJ35, 6), (RJ36, TJ36, 6), (RJ40, TJ40, 4), (RJ41, TJ41, 6), (RJ43, TJ43, 12), (RJ44, TJ44, 6), (RJ45, TJ45, 6), (RJ5, TJ5, 4), (RJ6, TJ6, 4), (RJ8, TJ8, 5), (RX1, TX1, 8), (RX10, TX10, 3), (RX11, TX11, 1), (RX12, TX12, 5), (RX14, TX14, 3), (RX15, TX15, 3), (RX16, TX16, 5), (RX17, TX17, 3), (RX18, TX18, 3), (RX19, TX19, 2), (RX2, TX2, 25), (RX3, TX3, 26), (RX4, TX4, 3), (RX5, TX5, 4), (RX6, TX6, 5), (RX7, TX7, 6), (RX8, TX8, 1), (RX9, TX9, 2)]
def zval (A : (Nat → Int32) ⊕ (Nat → Int64) ⊕ (Nat → UInt32) ⊕ (Nat → UInt64) ⊕ (Nat → Option Nat)) (j : Nat) : Value := match A with
  | .inl f => .int (f j)
  | .inr (.inl f) => .long (f j)
  | .inr (.inr (.inl f)) => .float (f j)
  | .inr (.inr (.inr (.inl f))) => .double (f j)
  | .inr (.inr (.inr (.inr f))) => va_rf (f j)
def zcell (G : ZG) (e : va_E) (cell : Cell) : Prop := match e with
  | .inl x => cell.cls = G.2.1 x.1 ∧ cell.slots.size = x.2.1 ∧ ∀ j : Nat, j < x.2.1 → cell.slots[j]? = some (zval x.2.2 j)
  | .inr o => cell.cls = G.1.1 o.1 ∧ ∃ r : vw_C, zCL[o.1]? = some r ∧ ∀ k : Nat, k < r.2.2 → cell.slots[G.1.2 o.1 k]? = some (vp_V o.2 k)
def zat (G : ZG) (a : Nat) (e : va_E) (H : Heap) : Prop := ∃ cell : Cell, H[a]? = some cell ∧ cell.vm = .none ∧ zcell G e cell
def zatK (G : ZG) (a : Nat) (e : va_E) (H : Heap) : Prop := ∃ cell : Cell, H[a]? = some cell ∧ cell.vm ≠ .unknown ∧ cell.vm.isStatics = false ∧ zcell G e cell
/-- the concrete heap H holds the abstract heap h, and what the start held -/
def zC (G : ZG) (h : ZH) (H : Heap) : Prop := (∀ (a : Nat) (e : va_E), h a = some e → G.2.2.1.size ≤ a ∧ zat G a e H) ∧ G.2.2.1.size ≤ H.size ∧ ∀ q : Nat, q < G.2.2.1.size → H[q]? = G.2.2.1[q]?
/-- no cell changes its class -/
def zExt (H H' : Heap) : Prop := ∀ (q : Nat) (ce : Cell), H[q]? = some ce → ∃ c2 : Cell, H'[q]? = some c2 ∧ c2.cls = ce.cls ∧ c2.vm = ce.vm
theorem zExt.rf {H : Heap} : zExt H H := fun _ ce h => ⟨ce, h, rfl, rfl⟩
theorem zExt.tr {H H1 H2 : Heap} (h : zExt H H1) (h2 : zExt H1 H2) : zExt H H2 := by
  intro q ce hq
  obtain ⟨c1, a1, a2, a3⟩ := h q ce hq
  obtain ⟨c2, b1, b2, b3⟩ := h2 q c1 a1
  exact ⟨c2, b1, b2.trans a2, b3.trans a3⟩
def zA (G : ZG) : Addr → Prop := fun q => G.2.2.1.size ≤ q
/-- classes of exceptions, by number -/
def zXN : Nat → String
  | 0 => "java/lang/UnsupportedOperationException"
  | 1 => "java/lang/IllegalArgumentException"
  | 2 => "java/lang/IndexOutOfBoundsException"
  | 3 => "java/util/NoSuchElementException"
  | 4 => "java/lang/IllegalStateException"
  | _ => "java/lang/ArithmeticException"
/-- exceptions that were caught here: address, class -/
def zQs (s : State) (qs : List (Nat × Nat)) (H : Heap) : Prop := ∀ z ∈ qs, ∃ ce : Cell, H[z.1]? = some ce ∧ ce.vm = .none ∧ s.vm.findClass (zXN z.2) = some ce.cls
def zO (G : ZG) (s : State) (qs : List (Nat × Nat)) (H : Heap) (locs : List Loc) : Prop := zExt s.heap H ∧ (∀ q ∈ locs, zA G q.base) ∧ (G.2.2.1.size ≤ s.heap.size ∧ ∀ q : Nat, q < G.2.2.1.size → s.heap[q]? = G.2.2.1[q]?) ∧ zQs s qs H
theorem zO_step {G : ZG} {s : State} {qs : List (Nat × Nat)} {H H' : Heap} {locs L : List Loc} (hO : zO G s qs H locs) (h : zExt H H') (hL : ∀ q ∈ L, zA G q.base) : zO G s qs H' (locs ++ L) := by
  refine ⟨hO.1.tr h, fun q hq => (List.mem_append.mp hq).elim (hO.2.1 q) (hL q), hO.2.2.1, fun z hz => ?_⟩
  obtain ⟨ce, h1, h2, h3⟩ := hO.2.2.2 z hz
  obtain ⟨c2, g1, g2, g3⟩ := h z.1 ce h1
  exact ⟨c2, g1, g3.trans h2, by rw [g2]; exact h3⟩
/-! words that the tables alone decide: links of nest mates, castable, declares -/
def zkind : Cond → Bool
  | .fieldLinkNest .. => true
  | .methodLinkNest .. => true
  | .castable .. => true
  | .declares _ => true
  | _ => false
def zNest : List Cond := lw_tbl.filter zkind
theorem zn {w : Cond} (h : w ∈ lw_tbl) (g : zkind w = true) : w ∈ zNest := List.mem_filter.mpr ⟨h, g⟩
theorem zNest_moved {s U : State} (hW : s.WarmedH U.vm) (h : ∀ w ∈ zNest, va_Nw w s) : ∀ w ∈ zNest, va_Nw w U := by
  intro w hw
  have hk := (List.mem_filter.mp hw).2
  have hs := h w hw
  cases w <;> first | exact va_Nw.warmF hW hs | exact va_Nw.warmM hW hs | exact va_Nw.warmC hW hs | exact va_Nw.warmD hW hs | (simp [zkind] at hk)
/-- one list of words for every method: the kit's, and how a StringBuilder runs what is private in its superclass -/
def zPriv : List MethodName := [⟨"java/lang/AbstractStringBuilder", "ensureCapacityInternal", "(I)V"⟩, ⟨"java/lang/AbstractStringBuilder", "newCapacity", "(I)I"⟩, ⟨"java/lang/AbstractStringBuilder", "putStringAt", "(ILjava/lang/String;)V"⟩, ⟨"java/lang/AbstractStringBuilder", "inflateIfNeededFor", "(Ljava/lang/String;)V"⟩]
def zAll : List Cond := zPriv.map (fun y => Cond.selects "java/lang/StringBuilder" y y) ++ lw_all
theorem zq {w : Cond} (h : w ∈ lw_all) : w ∈ zAll := List.mem_append_right _ h
theorem zgood : GoodIn zAll zAll := by
  intro w hw
  refine ⟨hw, ?_⟩
  rcases List.mem_append.mp hw with h | h
  · obtain ⟨y, -, rfl⟩ := List.mem_map.mp h
    exact good_of_word rfl
  · exact (lw_self w h).2
abbrev zws (y : MethodName) (b : ByteArray) (n : Nat) (r : Option FieldType) : List Cond := Cond.code y b n r :: zAll
abbrev zwsW (y : MethodName) (b : ByteArray) (n : Nat) (r : Option FieldType) (hh : List (Nat × Nat × Nat × Nat)) : List Cond := Cond.codeWith y b n r hh :: zAll
theorem zmeth {y : MethodName} {b : ByteArray} {n : Nat} {r : Option FieldType} (h : Cond.code y b n r ∈ zAll) : GoodIn zAll (zws y b n r) := by
  intro w hw
  rcases List.mem_cons.mp hw with e | e
  · rw [e]; exact zgood _ h
  · exact zgood _ e
theorem zmethW {y : MethodName} {b : ByteArray} {n : Nat} {r : Option FieldType} {hh : List (Nat × Nat × Nat × Nat)} (h : Cond.codeWith y b n r hh ∈ zAll) : GoodIn zAll (zwsW y b n r hh) := by
  intro w hw
  rcases List.mem_cons.mp hw with e | e
  · rw [e]; exact zgood _ h
  · exact zgood _ e
/-! interface methods that run: receiver's class, what is named, what runs -/
def zFW : List (String × MethodName × MethodName) := [
  ("java/util/TreeMap$Values", ⟨"java/util/Collection", "iterator", "()Ljava/util/Iterator;"⟩, ⟨"java/util/TreeMap$Values", "iterator", "()Ljava/util/Iterator;"⟩),
  ("java/util/TreeMap$ValueIterator", ⟨"java/util/Iterator", "hasNext", "()Z"⟩, ⟨"java/util/TreeMap$PrivateEntryIterator", "hasNext", "()Z"⟩),
  ("java/util/TreeMap$ValueIterator", ⟨"java/util/Iterator", "next", "()Ljava/lang/Object;"⟩, ⟨"java/util/TreeMap$ValueIterator", "next", "()Ljava/lang/Object;"⟩),
  ("java/util/ArrayList$Itr", ⟨"java/util/Iterator", "hasNext", "()Z"⟩, ⟨"java/util/ArrayList$Itr", "hasNext", "()Z"⟩),
  ("java/util/ArrayList$Itr", ⟨"java/util/Iterator", "next", "()Ljava/lang/Object;"⟩, ⟨"java/util/ArrayList$Itr", "next", "()Ljava/lang/Object;"⟩),
  ("TokenRing$State$Round$1", ⟨"java/util/Iterator", "hasNext", "()Z"⟩, ⟨"TokenRing$State$Round$1", "hasNext", "()Z"⟩),
  ("TokenRing$State$Round$1", ⟨"java/util/Iterator", "next", "()Ljava/lang/Object;"⟩, ⟨"TokenRing$State$Round$1", "next", "()Ljava/lang/Object;"⟩),
  ("java/util/TreeMap$NavigableSubMap$SubMapEntryIterator", ⟨"java/util/Iterator", "hasNext", "()Z"⟩, ⟨"java/util/TreeMap$NavigableSubMap$SubMapIterator", "hasNext", "()Z"⟩),
  ("java/util/TreeMap$NavigableSubMap$SubMapEntryIterator", ⟨"java/util/Iterator", "next", "()Ljava/lang/Object;"⟩, ⟨"java/util/TreeMap$NavigableSubMap$SubMapEntryIterator", "next", "()Ljava/lang/Object;"⟩),
  ("java/lang/Integer", ⟨"java/lang/Comparable", "compareTo", "(Ljava/lang/Object;)I"⟩, ⟨"java/lang/Integer", "compareTo", "(Ljava/lang/Object;)I"⟩),
  ("java/util/TreeMap$AscendingSubMap$AscendingEntrySetView", ⟨"java/util/Set", "size", "()I"⟩, ⟨"java/util/TreeMap$NavigableSubMap$EntrySetView", "size", "()I"⟩),
  ("java/lang/String", ⟨"java/lang/CharSequence", "length", "()I"⟩, ⟨"java/lang/String", "length", "()I"⟩),
  ("java/lang/String", ⟨"java/lang/CharSequence", "charAt", "(I)C"⟩, ⟨"java/lang/String", "charAt", "(I)C"⟩)]
/-- static fields: what they hold all through -/
def zST (K : ZK) : List (String × String × String × Value) := [
  ("java/lang/Integer$IntegerCache", "cache", "[Ljava/lang/Integer;", .ref (K.1 0)),
  ("java/lang/Integer$IntegerCache", "high", "I", .int 127),
  ("java/util/ArrayList", "DEFAULTCAPACITY_EMPTY_ELEMENTDATA", "[Ljava/lang/Object;", .ref (K.1 1)),
  ("java/lang/Integer", "DigitTens", "[B", .ref (K.1 2)),
  ("java/lang/Integer", "DigitOnes", "[B", .ref (K.1 3)),
  ("java/util/TreeMap", "UNBOUNDED", "Ljava/lang/Object;", .ref (K.1 4)),
  ("java/lang/String", "COMPACT_STRINGS", "Z", .int 1),
  ("jdk/internal/util/Preconditions", "SIOOBE_FORMATTER", "Ljava/util/function/BiFunction;", va_rf (zoptK K))]
def zSR (K : ZK) : List (String × Nat × String × Nat) := [("TokenRing", 397, " ", K.1 10), ("TokenRing", 399, "", K.1 11), ("TokenRing", 407, "*", K.1 12), ("TokenRing", 410, "nobody", K.1 13), ("TokenRing", 412, "-", K.1 14)]
/-- classes of exceptions of which the first is none of the second -/
def zNC : List (String × String) := [("java/util/NoSuchElementException", "java/lang/IndexOutOfBoundsException"), ("java/lang/IllegalArgumentException", "java/lang/IndexOutOfBoundsException"), ("java/lang/IllegalStateException", "java/lang/IllegalArgumentException"), ("java/lang/UnsupportedOperationException", "java/lang/IllegalArgumentException"), ("java/util/NoSuchElementException", "java/lang/IllegalArgumentException")]
/-- SortedMap.size, that Map declares: the words that only the narrow premise has -/
def zFU (U : State) : Prop := va_Nw (.methodLink "TokenRing" 304 ⟨"java/util/SortedMap", "size", "()I"⟩) U ∧ va_Nw (.interfaceMethod "java/util/SortedMap" "java/util/Map" "size" "()I") U ∧ va_Nw (.publicMethod ⟨"java/util/Map", "size", "()I"⟩) U ∧ va_Nw (.publicMethod ⟨"java/util/TreeMap$NavigableSubMap", "size", "()I"⟩) U ∧ va_Nw (.unhidden "java/util/TreeMap$AscendingSubMap" "size" "()I") U
theorem zFU.moved {s U : State} (hW : s.WarmedH U.vm) (h : zFU s) : zFU U := by
  obtain ⟨h1, h2, h3, h4, h5⟩ := h
  have hvm := hW.alike
  have hf : (s.setVm U.vm).methodFound? "java/util/SortedMap" "size" "()I" = s.methodFound? "java/util/SortedMap" "size" "()I" := State.methodFound?_setVm hvm _ _ _
  refine ⟨word_at hW (Or.inl rfl) h1, va_tabs rfl (rfl : (s.setVm U.vm).vm = U.vm) (A := #[]) ?_, va_tabs rfl (rfl : (s.setVm U.vm).vm = U.vm) (A := #[]) (by rw [Cond.publicMethod_setVm hvm]; exact h3), va_tabs rfl (rfl : (s.setVm U.vm).vm = U.vm) (A := #[]) (by rw [Cond.publicMethod_setVm hvm]; exact h4), va_tabs rfl (rfl : (s.setVm U.vm).vm = U.vm) (A := #[]) (by rw [Cond.unhidden_setVm hvm]; exact h5)⟩
  have e : (Cond.interfaceMethod "java/util/SortedMap" "java/util/Map" "size" "()I").before #[] (s.setVm U.vm) = (Cond.interfaceMethod "java/util/SortedMap" "java/util/Map" "size" "()I").before #[] s := by
    simp only [Cond.before, Cond.holds, Cond.value, State.vm_setVm, hvm.findClass, hf, State.methodNamed?_setVm hvm, arm_isInterface_setVm hvm]
  rw [e]
  exact h2
def zV (G : ZG) (U : State) : Prop :=
  (∀ (ci : Nat) (r : vw_C), zCL[ci]? = some r → u_Kn U r.1 r.2.1 r.2.2 (G.1.1 ci) (G.1.2 ci) ∧ ∀ x y : Nat, x < r.2.2 → y < r.2.2 → x ≠ y → G.1.2 ci x ≠ G.1.2 ci y) ∧
  (∀ (t : Nat) (ty : FieldType), zTY[t]? = some ty → (∃ (kA : Class) (comp : ClassId), U.vm.classes[G.2.1 t]? = some kA ∧ kA.kind = .array comp ty) ∧ (t < 5 → va_RA U (G.2.1 t) ty)) ∧
  (∀ w ∈ zNest, va_Nw w U) ∧
  (∀ z ∈ zFW, va_Fw z.1 z.2.1 z.2.2 U) ∧
  (∀ z ∈ zST G.2.2.2, va_Z z.1 z.2.1 z.2.2.1 z.2.2.2 (zA G) U G.2.2.1) ∧
  (∀ z ∈ zSR G.2.2.2, vk_R z.1 z.2.1 z.2.2.1 z.2.2.2 U) ∧
  (va_Mi "[Ljava/lang/Object;" (G.2.2.2.1 20) U ∧ va_AO "java/lang/Object" U ∧ va_Dc U ∧ (∀ z ∈ zNC, va_Nc z.1 z.2 U) ∧ zFU U) ∧
  (vx_Zq Bundle.tN "UNASSIGNED_STACK" Bundle.steD (zA G) U G.2.2.1 ∧ vx_Zq Bundle.tN "SUPPRESSED_SENTINEL" Bundle.listD (zA G) U G.2.2.1) ∧
  (∀ (a : Nat) (e : va_E), G.2.2.2.2 a = some e → zatK G a e G.2.2.1)
theorem zV.moved {G : ZG} {s U : State} (hW : s.WarmedH U.vm) (h : zV G s) : zV G U := by
  obtain ⟨h1, h2, h3, h4, h5, h6, ⟨h7, h8, h9, h13, h14⟩, ⟨h10, h11⟩, h12⟩ := h
  have hA := hW.alike
  refine ⟨fun ci r hr => ⟨u_Kn_moved hA (h1 ci r hr).1, (h1 ci r hr).2⟩, fun t ty ht => ?_, zNest_moved hW h3, fun z hz => ?_, fun z hz => va_Z.moved hA (h5 z hz), fun z hz => vk_R.warm hW (h6 z hz), ⟨va_Mi.moved hA h7, va_AO.moved hA h8, va_Dc.moved hA h9, fun z hz => va_Nc.moved hA (h13 z hz), zFU.moved hW h14⟩, ⟨vx_Zq.moved hA h10, vx_Zq.moved hA h11⟩, h12⟩
  · obtain ⟨⟨kA, comp, g1, g2⟩, g3⟩ := h2 t ty ht
    obtain ⟨k', hk', he⟩ := hA.2.2 _ _ g1
    exact ⟨⟨k', comp, hk', by rw [he]; exact g2⟩, fun h5 => (g3 h5).moved hA⟩
  · refine va_Fw.moved ?_ hA (h4 z hz)
    revert z
    decide +kernel
theorem zV_RA {G : ZG} {U : State} (h : zV G U) {t : Nat} {ty : FieldType} (ht : zTY[t]? = some ty) (h5 : t < 5) : (∃ (kA : Class) (comp : ClassId), U.vm.classes[G.2.1 t]? = some kA ∧ kA.kind = .array comp ty) ∧ va_RA U (G.2.1 t) ty := ⟨(h.2.1 t ty ht).1, (h.2.1 t ty ht).2 h5⟩
/-! ===== SIM-LAYER: a program is refined by the code from pc on ===== -/
def zQc {β : Type} (G : ZG) (enc : β → Option Value) (Q : β → ZH → Prop) : Array Value → State → Outcome → State → Prop := fun _ st o t =>
  ∃ (v : β) (h : ZH), o = .returned (enc v) ∧ Q v h ∧ zC G h t.heap ∧ zExt st.heap t.heap
def zXC (G : ZG) (X : Nat → ZH → Prop) : String → State → State → Prop := fun E st t => ∃ (ci : Nat) (h : ZH), ci < 6 ∧ zXN ci = E ∧ X ci h ∧ zC G h t.heap ∧ zExt st.heap t.heap
abbrev ZX (β : Type) : Type _ := Program × Launch × Env × Room × State × MethodId × Array Value × List Frame × Method × Code × Nat × ZG × (β → Option Value) × (β → ZH → Prop) × (Nat → ZH → Prop) × Nat × Nat × List (Nat × Nat)
def zS {β : Type} : ZX β → Nat → List (Nat × Value) → List Value → ZP β → Prop
  | (p, l, e, R, s, m, args, below, meth, c, nL, G, enc, Q, X, mc, ms, qs), pc, lv, st, f => ∀ (ls : Array Slot), lv_has ls nL lv → ∀ (h : ZH) (cb sb : Nat) (H : Heap) (locs : List Loc) (cells slots : Nat), f h cb sb Q X → zC G h H → zO G s qs H locs → cells + cb ≤ mc → slots + sb ≤ ms →
    W p l e R s m args below meth c H locs cells slots (vx_MQ below (zQc G enc Q) (zXC G X) args s mc ms (zA G)) (F0 m pc ls st)
def zE {β : Type} : ZX β → ZK → ByteArray → String → String → Nat → Nat → Nat → (β → Option Value) → Option FieldType → List ExceptionTableEntry → Prop
  | (p, l, e, R, s, m, args, below, meth, c, nL, G, enc, Q, X, mc, ms, qs), K, cc, own, nm, n, F, L, en, ret, xt => p.tables.exec = Jvm.exec ∧ c.code = cc ∧ c.maxLocals = n ∧ nL = n ∧ s.vm.findClass own = some m.cls ∧ (∀ w ∈ zAll, w.before args s = true) ∧ zV G s ∧ meth.locks = false ∧ l.stackTraces = false ∧ R.frames = F ∧ R.locals = L ∧ R.cells = mc ∧ R.slots = ms ∧ G.2.2.2 = K ∧ enc = en ∧ meth.sig.returnType = ret ∧ meth.name = nm ∧ c.exceptionTable.toList = xt
/-- a method's contract -/
def zMet {α : Type} (l : Launch) (G : ZG) (y : MethodName) (ws : List Cond) (F L : Nat) (av : List Value) (enc : α → Option Value) (f : ZP α) : Prop := ∀ (h : ZH) (mc ms : Nat) (Q : α → ZH → Prop) (X : Nat → ZH → Prop), f h mc ms Q X →
  vx_Met l y ws ({ frames := F, cells := mc, slots := ms, locals := L }) (va_Pc av (fun U => zV G U ∧ zC G h U.heap)) (zQc G enc Q) (zXC G X) mc ms (zA G)
/-- vx_ofW for a class some of whose methods are natives' -/
theorem zofWF {l : Launch} {y : MethodName} {ws ws' : List Cond} {rm : Room} {Pc : Array Value → State → Prop} {Qc : Array Value → State → Outcome → State → Prop} {XC : String → State → State → Prop} {mc ms : Nat} {free : Addr → Prop} {cc : ByteArray} {maxL : Nat} {ret : Option FieldType}
    (hy : plainFor y = true) (hw : ws = Cond.code y cc maxL ret :: ws')
    (body : ∀ p e s m args below meth c s₁, BodyLoose p l y (headSpec ws rm) cc maxL ret e s m args below meth c s₁ → c.maxLocals = maxL → (∀ x ∈ c.exceptionTable.toList, False) → Pc args s →
      W p l e (headSpec ws rm).room s m args below meth c s.heap [] 0 0 (vx_MQ below Qc XC args s mc ms free) (entryFrame m args maxL)) : vx_Met l y ws rm Pc Qc XC mc ms free := by
  refine MetFree.of_bodySF (code := cc) (maxLocals := maxL) (ret := ret) hy ?_ ?_
  · intro args s m h hn
    obtain ⟨meth, c, h1, h2, h3, h4, h5, h6, -, -⟩ := Cond.code_spec hn (atoms_spec (ws := ws) h _ (by rw [hw]; exact List.mem_cons_self))
    exact ⟨meth, c, h1, h2, h3, h4, h5, h6⟩
  · intro p e s m args below meth c s₁ B hml hP _
    have hh0 : s₁.heap = s.heap := by rw [B.state]; rfl
    have ht : ∀ x ∈ c.exceptionTable.toList, False := by
      obtain ⟨meth9, c9, h1, h2, -, -, -, -, h7, -⟩ := Cond.code_spec B.named (atoms_spec (ws := ws) B.pre _ (by rw [hw]; exact List.mem_cons_self))
      cases Option.some.inj (h1.symm.trans B.method)
      cases Option.some.inj (h2.symm.trans (Stand.of_body B).code)
      intro x hx
      rw [Array.isEmpty_iff.mp h7] at hx
      cases hx
    obtain ⟨t, a1, o, b1, b2, b3⟩ := body p e s m args below meth c s₁ B hml ht hP s₁ hh0 (Stand.of_body B)
    exact ⟨t, o, a1, b1, b2, b3⟩
theorem zmet_of {α : Type} {l : Launch} {G : ZG} {K : ZK} {y : MethodName} {cc : ByteArray} {n F L : Nat} {ret : Option FieldType} {av : List Value} {enc : α → Option Value} {f : ZP α} {own nm : String} (hl : l.stackTraces = false) (hK : G.2.2.2 = K) (hy : plainFor y = true) (hown : y.cls = own) (hnm : y.name = nm) (hn : (lg_sl av).length ≤ n)
    (k : ∀ x : ZX α, zE x K cc own nm n F L enc ret [] → zS x 0 (lv_args 0 av) [] f) : zMet l G y (zws y cc n ret) F L av enc f := by
  subst hown; subst hnm
  intro h mc ms Q X hf
  refine zofWF (cc := cc) (maxL := n) (ret := ret) hy rfl ?_
  intro p e s m args below meth c s₁ B hml hxt hv
  obtain ⟨rfl, hV, hC⟩ := hv
  have hts := atoms_spec (ws := zws y cc n ret) B.pre
  have hls := lv_entry av (n := n) hn
  rw [lg_entry_eq]
  have hlist : c.exceptionTable.toList = [] := by
    cases hc : c.exceptionTable.toList with
    | nil => rfl
    | cons a t => exact (hxt a (by rw [hc]; exact List.mem_cons_self)).elim
  exact k (p, l, e, _, s, m, av.toArray, below, meth, c, n, G, enc, Q, X, mc, ms, []) ⟨B.exec, B.bytes, hml, rfl, findClass_of_methodNamed B.named, fun w h => hts w (List.mem_cons_of_mem _ h), hV, B.notSynchronized, hl, rfl, rfl, rfl, rfl, hK, rfl, B.returns, (name_of_methodNamed B.named B.method).1, hlist⟩ _ hls h mc ms s.heap [] 0 0 hf hC ⟨zExt.rf, (fun _ h => by cases h), hC.2, fun _ h => by cases h⟩ (Nat.le_of_eq (Nat.zero_add _)) (Nat.le_of_eq (Nat.zero_add _))
/-- the same for a method with handlers -/
theorem zmet_ofH {α : Type} {l : Launch} {G : ZG} {K : ZK} {y : MethodName} {cc : ByteArray} {n F L : Nat} {ret : Option FieldType} {hh : List (Nat × Nat × Nat × Nat)} {av : List Value} {enc : α → Option Value} {f : ZP α} {own nm : String} (hl : l.stackTraces = false) (hK : G.2.2.2 = K) (hy : plainName y.cls = true) (hown : y.cls = own) (hnm : y.name = nm) (hn : (lg_sl av).length ≤ n)
    (k : ∀ x : ZX α, zE x K cc own nm n F L enc ret (tableOf hh) → zS x 0 (lv_args 0 av) [] f) : zMet l G y (zwsW y cc n ret hh) F L av enc f := by
  subst hown; subst hnm
  intro h mc ms Q X hf
  refine vx_ofWH (cc := cc) (maxL := n) (ret := ret) (hh := hh) hy rfl ?_
  intro p e s m args below meth c s₁ B hml hv
  obtain ⟨rfl, hV, hC⟩ := hv
  have hts := atoms_spec (ws := zwsW y cc n ret hh) B.pre
  have hls := lv_entry av (n := n) hn
  have hlist := vx_table (x := y) B (hts _ List.mem_cons_self)
  rw [lg_entry_eq]
  exact k (p, l, e, _, s, m, av.toArray, below, meth, c, n, G, enc, Q, X, mc, ms, []) ⟨B.exec, B.bytes, hml, rfl, findClass_of_methodNamed B.named, fun w h => hts w (List.mem_cons_of_mem _ h), hV, B.notSynchronized, hl, rfl, rfl, rfl, rfl, hK, rfl, B.returns, (name_of_methodNamed B.named B.method).1, hlist⟩ _ hls h mc ms s.heap [] 0 0 hf hC ⟨zExt.rf, (fun _ h => by cases h), hC.2, fun _ h => by cases h⟩ (Nat.le_of_eq (Nat.zero_add _)) (Nat.le_of_eq (Nat.zero_add _))
section ZR
variable {β : Type} {x : ZX β} {K : ZK} {cc : ByteArray} {own nm : String} {n F L : Nat} {en : β → Option Value} {ret : Option FieldType} {xt : List ExceptionTableEntry} {pc : Nat} {lv lv' : List (Nat × Value)} {st : List Value} {f g : ZP β}
theorem zs_iconst (hE : zE x K cc own nm n F L en ret xt) {i : Int} {v : Int32} (hv : Int32.ofInt i = v) (d : decode cc pc = .ok (.iconst i, 1)) (k : zS x (pc + 1) lv (.int v :: st) f) : zS x pc lv (st) f := by
  obtain ⟨p, l, e, R, s, m, args, below, meth, c, nL, G, enc, Q, X, mc, ms, qs⟩ := x
  exact fun ls hls h cb sb H locs cells slots hf hC hO h1 h2 => lv_iconst hE.1 hE.2.1 d hv (k ls hls h cb sb H locs cells slots hf hC hO h1 h2)
theorem zs_bipush (hE : zE x K cc own nm n F L en ret xt) {i : Int} {v : Int32} (hv : (Int8.ofInt i).toInt32 = v) (d : decode cc pc = .ok (.bipush i, 2)) (k : zS x (pc + 2) lv (.int v :: st) f) : zS x pc lv (st) f := by
  obtain ⟨p, l, e, R, s, m, args, below, meth, c, nL, G, enc, Q, X, mc, ms, qs⟩ := x
  exact fun ls hls h cb sb H locs cells slots hf hC hO h1 h2 => lv_bipush hE.1 hE.2.1 d hv (k ls hls h cb sb H locs cells slots hf hC hO h1 h2)
theorem zs_sipush (hE : zE x K cc own nm n F L en ret xt) {i : Int} {v : Int32} (hv : (Int16.ofInt i).toInt32 = v) (d : decode cc pc = .ok (.sipush i, 3)) (k : zS x (pc + 3) lv (.int v :: st) f) : zS x pc lv (st) f := by
  obtain ⟨p, l, e, R, s, m, args, below, meth, c, nL, G, enc, Q, X, mc, ms, qs⟩ := x
  exact fun ls hls h cb sb H locs cells slots hf hC hO h1 h2 => lv_sipush hE.1 hE.2.1 d hv (k ls hls h cb sb H locs cells slots hf hC hO h1 h2)
theorem zs_lconst (hE : zE x K cc own nm n F L en ret xt) {i : Fin 2} {v : Int64} (hv : Int64.ofNat (i : Nat) = v) (d : decode cc pc = .ok (.lconst i, 1)) (k : zS x (pc + 1) lv (.long v :: st) f) : zS x pc lv (st) f := by
  obtain ⟨p, l, e, R, s, m, args, below, meth, c, nL, G, enc, Q, X, mc, ms, qs⟩ := x
  exact fun ls hls h cb sb H locs cells slots hf hC hO h1 h2 => lv_lconst hE.1 hE.2.1 d hv (k ls hls h cb sb H locs cells slots hf hC hO h1 h2)
theorem zs_iadd (hE : zE x K cc own nm n F L en ret xt) {a b : Int32} (d : decode cc pc = .ok (.iadd, 1)) (k : zS x (pc + 1) lv (.int (a + b) :: st) f) : zS x pc lv (.int b :: .int a :: st) f := by
  obtain ⟨p, l, e, R, s, m, args, below, meth, c, nL, G, enc, Q, X, mc, ms, qs⟩ := x
  exact fun ls hls h cb sb H locs cells slots hf hC hO h1 h2 => lv_iadd hE.1 hE.2.1 d  (k ls hls h cb sb H locs cells slots hf hC hO h1 h2)
theorem zs_isub (hE : zE x K cc own nm n F L en ret xt) {a b : Int32} (d : decode cc pc = .ok (.isub, 1)) (k : zS x (pc + 1) lv (.int (a - b) :: st) f) : zS x pc lv (.int b :: .int a :: st) f := by
  obtain ⟨p, l, e, R, s, m, args, below, meth, c, nL, G, enc, Q, X, mc, ms, qs⟩ := x
  exact fun ls hls h cb sb H locs cells slots hf hC hO h1 h2 => lv_isub hE.1 hE.2.1 d  (k ls hls h cb sb H locs cells slots hf hC hO h1 h2)
theorem zs_imul (hE : zE x K cc own nm n F L en ret xt) {a b : Int32} (d : decode cc pc = .ok (.imul, 1)) (k : zS x (pc + 1) lv (.int (a * b) :: st) f) : zS x pc lv (.int b :: .int a :: st) f := by
  obtain ⟨p, l, e, R, s, m, args, below, meth, c, nL, G, enc, Q, X, mc, ms, qs⟩ := x
  exact fun ls hls h cb sb H locs cells slots hf hC hO h1 h2 => lv_imul hE.1 hE.2.1 d  (k ls hls h cb sb H locs cells slots hf hC hO h1 h2)
theorem zs_iand (hE : zE x K cc own nm n F L en ret xt) {a b : Int32} (d : decode cc pc = .ok (.iand, 1)) (k : zS x (pc + 1) lv (.int (a &&& b) :: st) f) : zS x pc lv (.int b :: .int a :: st) f := by
  obtain ⟨p, l, e, R, s, m, args, below, meth, c, nL, G, enc, Q, X, mc, ms, qs⟩ := x
  exact fun ls hls h cb sb H locs cells slots hf hC hO h1 h2 => lv_iand hE.1 hE.2.1 d  (k ls hls h cb sb H locs cells slots hf hC hO h1 h2)
theorem zs_ior (hE : zE x K cc own nm n F L en ret xt) {a b : Int32} (d : decode cc pc = .ok (.ior, 1)) (k : zS x (pc + 1) lv (.int (a ||| b) :: st) f) : zS x pc lv (.int b :: .int a :: st) f := by
  obtain ⟨p, l, e, R, s, m, args, below, meth, c, nL, G, enc, Q, X, mc, ms, qs⟩ := x
  exact fun ls hls h cb sb H locs cells slots hf hC hO h1 h2 => lv_ior hE.1 hE.2.1 d  (k ls hls h cb sb H locs cells slots hf hC hO h1 h2)
theorem zs_ixor (hE : zE x K cc own nm n F L en ret xt) {a b : Int32} (d : decode cc pc = .ok (.ixor, 1)) (k : zS x (pc + 1) lv (.int (a ^^^ b) :: st) f) : zS x pc lv (.int b :: .int a :: st) f := by
  obtain ⟨p, l, e, R, s, m, args, below, meth, c, nL, G, enc, Q, X, mc, ms, qs⟩ := x
  exact fun ls hls h cb sb H locs cells slots hf hC hO h1 h2 => lv_ixor hE.1 hE.2.1 d  (k ls hls h cb sb H locs cells slots hf hC hO h1 h2)
theorem zs_ishl (hE : zE x K cc own nm n F L en ret xt) {a b : Int32} (d : decode cc pc = .ok (.ishl, 1)) (k : zS x (pc + 1) lv (.int (a <<< (b &&& 31)) :: st) f) : zS x pc lv (.int b :: .int a :: st) f := by
  obtain ⟨p, l, e, R, s, m, args, below, meth, c, nL, G, enc, Q, X, mc, ms, qs⟩ := x
  exact fun ls hls h cb sb H locs cells slots hf hC hO h1 h2 => lv_ishl hE.1 hE.2.1 d  (k ls hls h cb sb H locs cells slots hf hC hO h1 h2)
theorem zs_ishr (hE : zE x K cc own nm n F L en ret xt) {a b : Int32} (d : decode cc pc = .ok (.ishr, 1)) (k : zS x (pc + 1) lv (.int (a >>> (b &&& 31)) :: st) f) : zS x pc lv (.int b :: .int a :: st) f := by
  obtain ⟨p, l, e, R, s, m, args, below, meth, c, nL, G, enc, Q, X, mc, ms, qs⟩ := x
  exact fun ls hls h cb sb H locs cells slots hf hC hO h1 h2 => lv_ishr hE.1 hE.2.1 d  (k ls hls h cb sb H locs cells slots hf hC hO h1 h2)
theorem zs_ineg (hE : zE x K cc own nm n F L en ret xt) {a : Int32} (d : decode cc pc = .ok (.ineg, 1)) (k : zS x (pc + 1) lv (.int (-a) :: st) f) : zS x pc lv (.int a :: st) f := by
  obtain ⟨p, l, e, R, s, m, args, below, meth, c, nL, G, enc, Q, X, mc, ms, qs⟩ := x
  exact fun ls hls h cb sb H locs cells slots hf hC hO h1 h2 => lv_ineg hE.1 hE.2.1 d  (k ls hls h cb sb H locs cells slots hf hC hO h1 h2)
theorem zs_i2l (hE : zE x K cc own nm n F L en ret xt) {a : Int32} (d : decode cc pc = .ok (.i2l, 1)) (k : zS x (pc + 1) lv (.long a.toInt64 :: st) f) : zS x pc lv (.int a :: st) f := by
  obtain ⟨p, l, e, R, s, m, args, below, meth, c, nL, G, enc, Q, X, mc, ms, qs⟩ := x
  exact fun ls hls h cb sb H locs cells slots hf hC hO h1 h2 => lv_i2l hE.1 hE.2.1 d rfl (k ls hls h cb sb H locs cells slots hf hC hO h1 h2)
theorem zs_i2d (hE : zE x K cc own nm n F L en ret xt) {a : Int32} (d : decode cc pc = .ok (.i2d, 1)) (k : zS x (pc + 1) lv (.double (FP.i2d a) :: st) f) : zS x pc lv (.int a :: st) f := by
  obtain ⟨p, l, e, R, s, m, args, below, meth, c, nL, G, enc, Q, X, mc, ms, qs⟩ := x
  exact fun ls hls h cb sb H locs cells slots hf hC hO h1 h2 => lv_i2d hE.1 hE.2.1 d  (k ls hls h cb sb H locs cells slots hf hC hO h1 h2)
theorem zs_i2f (hE : zE x K cc own nm n F L en ret xt) {a : Int32} (d : decode cc pc = .ok (.i2f, 1)) (k : zS x (pc + 1) lv (.float (FP.i2f a) :: st) f) : zS x pc lv (.int a :: st) f := by
  obtain ⟨p, l, e, R, s, m, args, below, meth, c, nL, G, enc, Q, X, mc, ms, qs⟩ := x
  exact fun ls hls h cb sb H locs cells slots hf hC hO h1 h2 => lv_i2f hE.1 hE.2.1 d  (k ls hls h cb sb H locs cells slots hf hC hO h1 h2)
theorem zs_i2b (hE : zE x K cc own nm n F L en ret xt) {a : Int32} (d : decode cc pc = .ok (.i2b, 1)) (k : zS x (pc + 1) lv (.int a.toInt8.toInt32 :: st) f) : zS x pc lv (.int a :: st) f := by
  obtain ⟨p, l, e, R, s, m, args, below, meth, c, nL, G, enc, Q, X, mc, ms, qs⟩ := x
  exact fun ls hls h cb sb H locs cells slots hf hC hO h1 h2 => lv_i2b hE.1 hE.2.1 d rfl (k ls hls h cb sb H locs cells slots hf hC hO h1 h2)
theorem zs_i2c (hE : zE x K cc own nm n F L en ret xt) {a : Int32} (d : decode cc pc = .ok (.i2c, 1)) (k : zS x (pc + 1) lv (.int (a.toUInt32 % 65536).toInt32 :: st) f) : zS x pc lv (.int a :: st) f := by
  obtain ⟨p, l, e, R, s, m, args, below, meth, c, nL, G, enc, Q, X, mc, ms, qs⟩ := x
  exact fun ls hls h cb sb H locs cells slots hf hC hO h1 h2 => lv_i2c hE.1 hE.2.1 d rfl (k ls hls h cb sb H locs cells slots hf hC hO h1 h2)
theorem zs_iushr (hE : zE x K cc own nm n F L en ret xt) {a b : Int32} (d : decode cc pc = .ok (.iushr, 1)) (k : zS x (pc + 1) lv (.int ((a.toUInt32 >>> (b.toUInt32 &&& Int32.toUInt32 31)).toInt32) :: st) f) : zS x pc lv (.int b :: .int a :: st) f := by
  obtain ⟨p, l, e, R, s, m, args, below, meth, c, nL, G, enc, Q, X, mc, ms, qs⟩ := x
  exact fun ls hls h cb sb H locs cells slots hf hC hO h1 h2 => lv_iushr hE.1 hE.2.1 d rfl (k ls hls h cb sb H locs cells slots hf hC hO h1 h2)
theorem zs_dcmp (hE : zE x K cc own nm n F L en ret xt) {a b : UInt64} {o : CmpOp} (d : decode cc pc = .ok (.dcmp o, 1)) (k : zS x (pc + 1) lv (.int (Op.cmpValue (FP.dcmp a b) o) :: st) f) : zS x pc lv (.double b :: .double a :: st) f := by
  obtain ⟨p, l, e, R, s, m, args, below, meth, c, nL, G, enc, Q, X, mc, ms, qs⟩ := x
  exact fun ls hls h cb sb H locs cells slots hf hC hO h1 h2 => lv_dcmp hE.1 hE.2.1 d  (k ls hls h cb sb H locs cells slots hf hC hO h1 h2)
theorem zs_fcmp (hE : zE x K cc own nm n F L en ret xt) {a b : UInt32} {o : CmpOp} (d : decode cc pc = .ok (.fcmp o, 1)) (k : zS x (pc + 1) lv (.int (Op.cmpValue (FP.fcmp a b) o) :: st) f) : zS x pc lv (.float b :: .float a :: st) f := by
  obtain ⟨p, l, e, R, s, m, args, below, meth, c, nL, G, enc, Q, X, mc, ms, qs⟩ := x
  exact fun ls hls h cb sb H locs cells slots hf hC hO h1 h2 => lv_fcmp hE.1 hE.2.1 d  (k ls hls h cb sb H locs cells slots hf hC hO h1 h2)
theorem zs_dconst0 (hE : zE x K cc own nm n F L en ret xt)  (d : decode cc pc = .ok (.dconst 0, 1)) (k : zS x (pc + 1) lv (.double FP.dconst0 :: st) f) : zS x pc lv (st) f := by
  obtain ⟨p, l, e, R, s, m, args, below, meth, c, nL, G, enc, Q, X, mc, ms, qs⟩ := x
  exact fun ls hls h cb sb H locs cells slots hf hC hO h1 h2 => lv_dconst0 hE.1 hE.2.1 d  (k ls hls h cb sb H locs cells slots hf hC hO h1 h2)
theorem zs_fconst0 (hE : zE x K cc own nm n F L en ret xt)  (d : decode cc pc = .ok (.fconst 0, 1)) (k : zS x (pc + 1) lv (.float FP.fconst0 :: st) f) : zS x pc lv (st) f := by
  obtain ⟨p, l, e, R, s, m, args, below, meth, c, nL, G, enc, Q, X, mc, ms, qs⟩ := x
  exact fun ls hls h cb sb H locs cells slots hf hC hO h1 h2 => lv_fconst0 hE.1 hE.2.1 d  (k ls hls h cb sb H locs cells slots hf hC hO h1 h2)
theorem zs_idiv (hE : zE x K cc own nm n F L en ret xt) {a b : Int32} (d : decode cc pc = .ok (.idiv, 1)) (k : zS x (pc + 1) lv (.int (a / b) :: st) f) : zS x pc lv (.int b :: .int a :: st) (zasg (¬ b = 0) f) := by
  obtain ⟨p, l, e, R, s, m, args, below, meth, c, nL, G, enc, Q, X, mc, ms, qs⟩ := x
  exact fun ls hls h cb sb H locs cells slots hf hC hO h1 h2 => lv_idiv hE.1 hE.2.1 d hf.1 (k ls hls h cb sb H locs cells slots hf.2 hC hO h1 h2)
theorem zs_irem (hE : zE x K cc own nm n F L en ret xt) {a b : Int32} (d : decode cc pc = .ok (.irem, 1)) (k : zS x (pc + 1) lv (.int (a - a / b * b) :: st) f) : zS x pc lv (.int b :: .int a :: st) (zasg (¬ b = 0) f) := by
  obtain ⟨p, l, e, R, s, m, args, below, meth, c, nL, G, enc, Q, X, mc, ms, qs⟩ := x
  exact fun ls hls h cb sb H locs cells slots hf hC hO h1 h2 => lv_irem hE.1 hE.2.1 d hf.1 (k ls hls h cb sb H locs cells slots hf.2 hC hO h1 h2)
theorem zs_ddiv (hE : zE x K cc own nm n F L en ret xt) {a b : UInt64} (d : decode cc pc = .ok (.ddiv, 1)) (k : zS x (pc + 1) lv (.double (FP.ddiv a b) :: st) f) : zS x pc lv (.double b :: .double a :: st) (zasg (vf_n64 (FP.ddiv a b)) f) := by
  obtain ⟨p, l, e, R, s, m, args, below, meth, c, nL, G, enc, Q, X, mc, ms, qs⟩ := x
  exact fun ls hls h cb sb H locs cells slots hf hC hO h1 h2 => lv_ddiv hE.1 hE.2.1 d hf.1 (k ls hls h cb sb H locs cells slots hf.2 hC hO h1 h2)
theorem zs_fdiv (hE : zE x K cc own nm n F L en ret xt) {a b : UInt32} (d : decode cc pc = .ok (.fdiv, 1)) (k : zS x (pc + 1) lv (.float (FP.fdiv a b) :: st) f) : zS x pc lv (.float b :: .float a :: st) (zasg (vf_n32 (FP.fdiv a b)) f) := by
  obtain ⟨p, l, e, R, s, m, args, below, meth, c, nL, G, enc, Q, X, mc, ms, qs⟩ := x
  exact fun ls hls h cb sb H locs cells slots hf hC hO h1 h2 => lv_fdiv hE.1 hE.2.1 d hf.1 (k ls hls h cb sb H locs cells slots hf.2 hC hO h1 h2)
theorem zs_f2d (hE : zE x K cc own nm n F L en ret xt) {a : UInt32} (d : decode cc pc = .ok (.f2d, 1)) (k : zS x (pc + 1) lv (.double (FP.f2d a) :: st) f) : zS x pc lv (.float a :: st) (zasg (vf_n64 (FP.f2d a)) f) := by
  obtain ⟨p, l, e, R, s, m, args, below, meth, c, nL, G, enc, Q, X, mc, ms, qs⟩ := x
  exact fun ls hls h cb sb H locs cells slots hf hC hO h1 h2 => lv_f2d hE.1 hE.2.1 d hf.1 (k ls hls h cb sb H locs cells slots hf.2 hC hO h1 h2)
theorem zs_dup (hE : zE x K cc own nm n F L en ret xt) {a : Value} (ha : a.category = 1) (d : decode cc pc = .ok (.dup, 1)) (k : zS x (pc + 1) lv (a :: a :: st) f) : zS x pc lv (a :: st) f := by
  obtain ⟨p, l, e, R, s, m, args, below, meth, c, nL, G, enc, Q, X, mc, ms, qs⟩ := x
  exact fun ls hls h cb sb H locs cells slots hf hC hO h1 h2 => lv_dup hE.1 hE.2.1 d ha (k ls hls h cb sb H locs cells slots hf hC hO h1 h2)
theorem zs_pop (hE : zE x K cc own nm n F L en ret xt) {a : Value} (ha : a.category = 1) (d : decode cc pc = .ok (.pop, 1)) (k : zS x (pc + 1) lv (st) f) : zS x pc lv (a :: st) f := by
  obtain ⟨p, l, e, R, s, m, args, below, meth, c, nL, G, enc, Q, X, mc, ms, qs⟩ := x
  exact fun ls hls h cb sb H locs cells slots hf hC hO h1 h2 => lv_pop hE.1 hE.2.1 d ha (k ls hls h cb sb H locs cells slots hf hC hO h1 h2)
theorem zs_dup_x1 (hE : zE x K cc own nm n F L en ret xt) {a b : Value} (ha : a.category = 1) (hb : b.category = 1) (d : decode cc pc = .ok (.dup_x1, 1)) (k : zS x (pc + 1) lv (a :: b :: a :: st) f) : zS x pc lv (a :: b :: st) f := by
  obtain ⟨p, l, e, R, s, m, args, below, meth, c, nL, G, enc, Q, X, mc, ms, qs⟩ := x
  exact fun ls hls h cb sb H locs cells slots hf hC hO h1 h2 => lv_dup_x1 hE.1 hE.2.1 d ha hb (k ls hls h cb sb H locs cells slots hf hC hO h1 h2)
theorem zs_dup2_11 (hE : zE x K cc own nm n F L en ret xt) {a b : Value} (ha : a.category = 1) (hb : b.category = 1) (d : decode cc pc = .ok (.dup2, 1)) (k : zS x (pc + 1) lv (a :: b :: a :: b :: st) f) : zS x pc lv (a :: b :: st) f := by
  obtain ⟨p, l, e, R, s, m, args, below, meth, c, nL, G, enc, Q, X, mc, ms, qs⟩ := x
  exact fun ls hls h cb sb H locs cells slots hf hC hO h1 h2 => lv_dup2_11 hE.1 hE.2.1 d ha hb (k ls hls h cb sb H locs cells slots hf hC hO h1 h2)
theorem zcat_rf (o : Option Nat) : (va_rf o).category = 1 := by cases o <;> rfl
theorem zs_iload_n (hE : zE x K cc own nm n F L en ret xt) (j : Nat) {i : Nat} {q : Fin 4} {v : Int32} (hi : (q : Nat) = i) (hj : lv[j]? = some (i, .int v)) (d : decode cc pc = .ok (.iload_n q, 1)) (k : zS x (pc + 1) lv (.int v :: st) f) : zS x pc lv st f := by
  obtain ⟨p, l, e, R, s, m, args, below, meth, c, nL, G, enc, Q, X, mc, ms, qs⟩ := x
  exact fun ls hls h cb sb H locs cells slots hf hC hO h1 h2 => lv_iload_n hE.1 hE.2.1 d hi (lv_at hls j hj) (k ls hls h cb sb H locs cells slots hf hC hO h1 h2)
theorem zs_iload (hE : zE x K cc own nm n F L en ret xt) (j : Nat) {i : Nat} {v : Int32} (hj : lv[j]? = some (i, .int v)) (d : decode cc pc = .ok (.iload i, 2)) (k : zS x (pc + 2) lv (.int v :: st) f) : zS x pc lv st f := by
  obtain ⟨p, l, e, R, s, m, args, below, meth, c, nL, G, enc, Q, X, mc, ms, qs⟩ := x
  exact fun ls hls h cb sb H locs cells slots hf hC hO h1 h2 => lv_iload hE.1 hE.2.1 d (lv_at hls j hj) (k ls hls h cb sb H locs cells slots hf hC hO h1 h2)
theorem zs_fload_n (hE : zE x K cc own nm n F L en ret xt) (j : Nat) {i : Nat} {q : Fin 4} {v : UInt32} (hi : (q : Nat) = i) (hj : lv[j]? = some (i, .float v)) (d : decode cc pc = .ok (.fload_n q, 1)) (k : zS x (pc + 1) lv (.float v :: st) f) : zS x pc lv st f := by
  obtain ⟨p, l, e, R, s, m, args, below, meth, c, nL, G, enc, Q, X, mc, ms, qs⟩ := x
  exact fun ls hls h cb sb H locs cells slots hf hC hO h1 h2 => lv_fload_n hE.1 hE.2.1 d hi (lv_at hls j hj) (k ls hls h cb sb H locs cells slots hf hC hO h1 h2)
theorem zs_fload (hE : zE x K cc own nm n F L en ret xt) (j : Nat) {i : Nat} {v : UInt32} (hj : lv[j]? = some (i, .float v)) (d : decode cc pc = .ok (.fload i, 2)) (k : zS x (pc + 2) lv (.float v :: st) f) : zS x pc lv st f := by
  obtain ⟨p, l, e, R, s, m, args, below, meth, c, nL, G, enc, Q, X, mc, ms, qs⟩ := x
  exact fun ls hls h cb sb H locs cells slots hf hC hO h1 h2 => lv_fload hE.1 hE.2.1 d (lv_at hls j hj) (k ls hls h cb sb H locs cells slots hf hC hO h1 h2)
theorem zs_dload_n (hE : zE x K cc own nm n F L en ret xt) (j : Nat) {i : Nat} {q : Fin 4} {v : UInt64} (hi : (q : Nat) = i) (hj : lv[j]? = some (i, .double v)) (d : decode cc pc = .ok (.dload_n q, 1)) (k : zS x (pc + 1) lv (.double v :: st) f) : zS x pc lv st f := by
  obtain ⟨p, l, e, R, s, m, args, below, meth, c, nL, G, enc, Q, X, mc, ms, qs⟩ := x
  exact fun ls hls h cb sb H locs cells slots hf hC hO h1 h2 => lv_dload_n hE.1 hE.2.1 d hi (lv_at hls j hj) (k ls hls h cb sb H locs cells slots hf hC hO h1 h2)
theorem zs_dload (hE : zE x K cc own nm n F L en ret xt) (j : Nat) {i : Nat} {v : UInt64} (hj : lv[j]? = some (i, .double v)) (d : decode cc pc = .ok (.dload i, 2)) (k : zS x (pc + 2) lv (.double v :: st) f) : zS x pc lv st f := by
  obtain ⟨p, l, e, R, s, m, args, below, meth, c, nL, G, enc, Q, X, mc, ms, qs⟩ := x
  exact fun ls hls h cb sb H locs cells slots hf hC hO h1 h2 => lv_dload hE.1 hE.2.1 d (lv_at hls j hj) (k ls hls h cb sb H locs cells slots hf hC hO h1 h2)
theorem zs_aload_n (hE : zE x K cc own nm n F L en ret xt) (j : Nat) {i : Nat} {q : Fin 4} {v : Option Nat} (hi : (q : Nat) = i) (hj : lv[j]? = some (i, va_rf v)) (d : decode cc pc = .ok (.aload_n q, 1)) (k : zS x (pc + 1) lv (va_rf v :: st) f) : zS x pc lv st f := by
  obtain ⟨p, l, e, R, s, m, args, below, meth, c, nL, G, enc, Q, X, mc, ms, qs⟩ := x
  cases v with
  | none => exact fun ls hls h cb sb H locs cells slots hf hC hO h1 h2 => lv_aload_nN hE.1 hE.2.1 d hi (lv_at hls j hj) (k ls hls h cb sb H locs cells slots hf hC hO h1 h2)
  | some a => exact fun ls hls h cb sb H locs cells slots hf hC hO h1 h2 => lv_aload_n hE.1 hE.2.1 d hi (lv_at hls j hj) (k ls hls h cb sb H locs cells slots hf hC hO h1 h2)
theorem zs_aload (hE : zE x K cc own nm n F L en ret xt) (j : Nat) {i : Nat} {v : Option Nat} (hj : lv[j]? = some (i, va_rf v)) (d : decode cc pc = .ok (.aload i, 2)) (k : zS x (pc + 2) lv (va_rf v :: st) f) : zS x pc lv st f := by
  obtain ⟨p, l, e, R, s, m, args, below, meth, c, nL, G, enc, Q, X, mc, ms, qs⟩ := x
  cases v with
  | none => exact fun ls hls h cb sb H locs cells slots hf hC hO h1 h2 => lv_aloadN hE.1 hE.2.1 d (lv_at hls j hj) (k ls hls h cb sb H locs cells slots hf hC hO h1 h2)
  | some a => exact fun ls hls h cb sb H locs cells slots hf hC hO h1 h2 => lv_aload hE.1 hE.2.1 d (lv_at hls j hj) (k ls hls h cb sb H locs cells slots hf hC hO h1 h2)
def zfil (i : Nat) : List (Nat × Value) → List (Nat × Value)
  | [] => []
  | q :: t => bif Nat.beq q.1 i then zfil i t else q :: zfil i t
def zpre (i : Nat) : List (Nat × Value) → Option Value
  | [] => none
  | q :: t => bif Nat.beq (q.1 + 1) i then some q.2 else zpre i t
def zcat1 : Option Value → Prop
  | none => True
  | some v => v.category = 1
theorem zfil_sub {i : Nat} {lv : List (Nat × Value)} : ∀ q ∈ zfil i lv, q ∈ lv ∧ q.1 ≠ i := by
  induction lv with
  | nil => intro q hq; cases hq
  | cons a t ih =>
    intro q hq
    unfold zfil at hq
    cases hb : Nat.beq a.1 i with
    | true =>
      rw [hb] at hq
      exact ⟨List.mem_cons_of_mem _ (ih q hq).1, (ih q hq).2⟩
    | false =>
      rw [hb] at hq
      rcases List.mem_cons.mp hq with e | e
      · subst e
        exact ⟨List.mem_cons_self, fun e => by rw [e] at hb; simp at hb⟩
      · exact ⟨List.mem_cons_of_mem _ (ih q e).1, (ih q e).2⟩
end ZR
