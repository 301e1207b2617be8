/-! ===== THE START, 2: the constants; from the P-layer to the claim ===== -/
section ZST2
variable {args : Array Value} {s : State}
theorem z_arrC {t : Term} {n : Nat} (hn : n < 2 ^ 31) (hl : (Cond.eq (.length t) (.int (Int32.ofNat n))).before args s = true) : ∃ (a : Addr) (ce : Cell), t.eval args s none [] s = some (.ref a) ∧ s.arrayAt? a = some ce ∧ ce.slots.size = n := by
  have hv := z_eqi hl
  obtain ⟨b, ce, ht, harr, he⟩ := Term.length_spec hv
  have hsz : ce.slots.size < 2 ^ 31 := by
    simp only [Term.eval, ht, harr, Option.bind_eq_bind, Option.bind_some] at hv
    by_cases hlt : ce.slots.size < 2147483648
    · exact hlt
    · simp [hlt] at hv
  refine ⟨b, ce, ht, harr, ?_⟩
  injection he with he
  have he : Int32.ofNat n = Int32.ofNat ce.slots.size := he
  have h1 := congrArg Int32.toInt he
  rw [Int32.toInt_ofNat_of_lt hn, Int32.toInt_ofNat_of_lt hsz] at h1
  omega
theorem z_elemC {t : Term} {a : Addr} {ce : Cell} {i : Nat} {v : Int32} (hi : i < 2 ^ 31) (ht : t.eval args s none [] s = some (.ref a)) (hc : s.arrayAt? a = some ce) (h : (Cond.eq (.elem t (.int (Int32.ofNat i))) (.int v)).before args s = true) : ce.slots[i]? = some (.int v) := by
  obtain ⟨a', j, ce', h1, h2, h3, -, h4⟩ := Term.elem_spec (z_eqi h)
  cases ht.symm.trans h1
  cases hc.symm.trans h3
  have h2 : some (Value.int (Int32.ofNat i)) = some (.int j) := h2
  injection h2 with h2
  injection h2 with h2
  subst h2
  have : (Int32.ofNat i).toNatClampNeg = i := by
    show (Int32.ofNat i).toInt.toNat = i
    rw [Int32.toInt_ofNat_of_lt hi]; rfl
  rw [this] at h4
  exact h4
theorem z_isi {ce : Cell} {n : Nat} {f : Nat → Int32} (hs : ce.slots.size = n) (h : ∀ i, i < n → ce.slots[i]? = some (.int (f i))) : zints ce ∧ ∀ i, i < n → zsi ce i = f i := by
  have h2 : ∀ i, i < n → zsi ce i = f i := fun i hi => by simp [zsi, h i hi]
  refine ⟨fun j hj => ?_, h2⟩
  rw [hs] at hj
  rw [h2 j hj]
  exact h j hj
section ZDA
variable {D : va_G} {A : Nat → ClassId}
/-- a byte array of the start -/
theorem z_bytes (hd : zdist D A s) (hA3 : va_RA s (A 3) .byte) {t : Term} {n : Nat} {f : Nat → Int32} (hn : n < 2 ^ 31) (h3 : (Cond.eq (.length t) (.int (Int32.ofNat n))).before args s = true) (h4 : ∀ i, i < n → (Cond.eq (.elem t (.int (Int32.ofNat i))) (.int (f i))).before args s = true) (h5 : (Cond.exactly t "[B").before args s = true) :
    ∃ (v : Nat) (g : Nat → Int32), t.eval args s none [] s = some (.ref v) ∧ zabs D A s.heap v = some (.inl (3, n, .inl g)) ∧ ∀ i, i < n → g i = f i := by
  obtain ⟨v, ce, ht, harr, hsz⟩ := z_arrC hn h3
  obtain ⟨hcell, n1, n2, -⟩ := State.arrayAt?_spec harr
  obtain ⟨a', c, ce', k, e1, e2, e3, e4, -, e6, -⟩ := Cond.exactly_spec h5
  cases ht.symm.trans e1
  cases hcell.symm.trans e3
  have hcl : ce.cls = A 3 := by
    rw [e6]
    exact Option.some.inj (e2.symm.trans (va_nm_byte hA3))
  obtain ⟨g1, g2⟩ := z_isi hsz (fun i hi => z_elemC (Nat.lt_trans hi hn) ht harr (h4 i hi))
  exact ⟨v, zsi ce, ht, by rw [zr3 hd hcell n1 n2 hcl g1, hsz], g2⟩
/-- a string of the start -/
theorem z_str (hd : zdist D A s) (hA3 : va_RA s (A 3) .byte) (hts : ∀ w ∈ lw_all, w.before args s = true) (hK : u_Kn s RJ6 TJ6 4 (D.1 22) (D.2 22)) {t : Term} {n : Nat} {f : Nat → Int32} (hn : n < 2 ^ 31) (h1 : (Cond.exactly t "java/lang/String").before args s = true) (h2 : (Cond.eq (.field t "java/lang/String" "coder" "B") (.int 0)).before args s = true) (h3 : (Cond.eq (.length (.field t "java/lang/String" "value" "[B")) (.int (Int32.ofNat n))).before args s = true) (h4 : ∀ i, i < n → (Cond.eq (.elem (.field t "java/lang/String" "value" "[B") (.int (Int32.ofNat i))) (.int (f i))).before args s = true) (h5 : (Cond.exactly (.field t "java/lang/String" "value" "[B") "[B").before args s = true) :
    ∃ (a v : Nat) (h z : Value) (g : Nat → Int32), t.eval args s none [] s = some (.ref a) ∧ zabs D A s.heap a = some (.inr (22, [.ref v, .int 0, h, z])) ∧ zabs D A s.heap v = some (.inl (3, n, .inl g)) ∧ ∀ i, i < n → g i = f i := by
  obtain ⟨v, g, hv, hz, hg⟩ := z_bytes hd hA3 hn h3 h4 h5
  obtain ⟨a, c, ce, k, e1, e2, e3, e4, e5, e6, e7⟩ := Cond.exactly_spec h1
  obtain ⟨hS, hfc, kC, hkC, hkind⟩ := hK
  have hcl : ce.cls = D.1 22 := by rw [e6]; exact Option.some.inj (e2.symm.trans hfc)
  have hk : k = kC := by
    have e8 : c = D.1 22 := Option.some.inj (e2.symm.trans hfc)
    rw [e8] at e4
    exact Option.some.inj (e4.symm.trans hkC)
  subst hk
  have hsz := e7 hkind
  have hslot : ∀ q, q < 4 → ∃ w, ce.slots[D.2 22 q]? = some w := by
    intro q hq
    obtain ⟨cf, kf, fi, fd, hi, hfd⟩ := hS q hq
    have h9 := (u_facts hfc hkC (u_lays hts in_J6 hq) hi).2.2
    rw [hfd] at h9
    have h10 : D.2 22 q < ce.slots.size := by
      rw [hsz]
      exact (Array.getElem?_eq_some_iff.mp h9).1
    exact ⟨ce.slots[D.2 22 q], Array.getElem?_eq_getElem h10⟩
  obtain ⟨c0, k0, i0, f0, hi0, hf0⟩ := hS 0 (by decide)
  obtain ⟨-, ce0, p1, n1, n2, -, p4⟩ := Term.field_spec hi0 e1 hv
  cases e3.symm.trans p1
  obtain ⟨c1, k1, i1, f1, hi1, hf1⟩ := hS 1 (by decide)
  obtain ⟨-, ce1, r1, -, -, -, r4⟩ := Term.field_spec hi1 e1 (z_eqi h2)
  cases e3.symm.trans r1
  rw [hf0] at p4
  rw [hf1] at r4
  obtain ⟨w2, x2⟩ := hslot 2 (by decide)
  obtain ⟨w3, x3⟩ := hslot 3 (by decide)
  refine ⟨a, v, w2, w3, g, e1, ?_, hz, hg⟩
  rw [zr_22 hd e3 n1 n2 hcl hslot]
  have : zfs ce (D.2 22) 4 = [.ref v, .int 0, w2, w3] := by
    show [(ce.slots[D.2 22 0]?).getD .null, (ce.slots[D.2 22 1]?).getD .null, (ce.slots[D.2 22 2]?).getD .null, (ce.slots[D.2 22 3]?).getD .null] = _
    rw [p4, r4, x2, x3]
    rfl
  rw [this]
end ZDA
end ZST2
/-- what the P-layer knows of the constants: the script, Integer's cache, the empty array of lists, the digits, the strings -/
def zStr (K : ZK) (i : Nat) (tx : List Nat) : Prop := ∃ (v : Nat) (h z : Value) (g : Nat → Int32), K.2 (K.1 i) = some (.inr (22, [.ref v, .int 0, h, z])) ∧ K.2 v = some (.inl (3, tx.length, .inl g)) ∧ ∀ j, j < tx.length → g j = Int32.ofNat (tx.getD j 0)
def zKok (K : ZK) (b L : Nat) (xs : Nat → Int32) : Prop :=
  (∃ f : Nat → Int32, K.2 b = some (.inl (6, L, .inl f)) ∧ ∀ j, j < L → f j = xs j) ∧
  (∃ g : Nat → Option Nat, K.2 (K.1 0) = some (.inl (5, 256, .inr (.inr (.inr (.inr g))))) ∧ ∀ i, i < 256 → ∃ a : Nat, g i = some a ∧ K.2 a = some (.inr (2, [.int (Int32.ofNat i - 128)]))) ∧
  (∃ g : Nat → Option Nat, K.2 (K.1 1) = some (.inl (4, 0, .inr (.inr (.inr (.inr g)))))) ∧
  (∃ f : Nat → Int32, K.2 (K.1 2) = some (.inl (3, 100, .inl f)) ∧ ∀ i, i < 100 → f i = Int32.ofNat (48 + i / 10)) ∧
  (∃ f : Nat → Int32, K.2 (K.1 3) = some (.inl (3, 100, .inl f)) ∧ ∀ i, i < 100 → f i = Int32.ofNat (48 + i % 10)) ∧
  zStr K 10 [32] ∧ zStr K 11 [] ∧ zStr K 12 [42] ∧ zStr K 13 [110, 111, 98, 111, 100, 121] ∧ zStr K 14 [45]
section ZST3
variable {args : Array Value} {s : State}
abbrev zNar : List Cond := flatC (Jvm.Cond.and given_1 narrow_1)
def zTC : Term := .static "java/lang/Integer$IntegerCache" "cache" "[Ljava/lang/Integer;"
theorem z_all {D : va_G} {A : Nat → ClassId} (hd : zdist D A s) (hK : u_Kn s RJ13 TJ13 1 (D.1 2) (D.2 2)) (hts : ∀ w ∈ lw_all, w.before args s = true) {a : Addr} {ce : Cell} (ht : zTC.eval args s none [] s = some (.ref a)) (hc : s.arrayAt? a = some ce) (hsz : ce.slots.size = 256)
    (h : (Cond.all zTC (Cond.and (Cond.exactly (.elem zTC (.index 0)) "java/lang/Integer") (Cond.eq (.field (.elem zTC (.index 0)) "java/lang/Integer" "value" "I") (.sub (.index 0) (.int 128))))).before args s = true) :
    zrefs ce ∧ ∀ i, i < 256 → ∃ b : Nat, zsr ce i = some b ∧ zabs D A s.heap b = some (.inr (2, [.int (Int32.ofNat i - 128)])) := by
  have hall := Cond.all_elim ht hc (by simpa [Cond.before, Cond.holds] using h)
  have key : ∀ i, i < 256 → ∃ b : Nat, ce.slots[i]? = some (.ref b) ∧ zabs D A s.heap b = some (.inr (2, [.int (Int32.ofNat i - 128)])) := by
    intro i hi
    have h4 := hall i (by rw [hsz]; exact hi)
    have hi31 : i < 2 ^ 31 := by omega
    have hneg : ¬ (i.toInt32 < 0) := Int32.ofNat_not_neg hi31
    have hnat : i.toInt32.toNatClampNeg = i := by
      show (Int32.ofNat i).toInt.toNat = i
      rw [Int32.toInt_ofNat_small hi31]; rfl
    have ht' : zTC.eval args s none [i] s = some (.ref a) := by rw [Term.eval_closed none [i] zTC s rfl]; exact ht
    have z_and : ∀ (X Y : Cond), (Cond.and X Y).holds args s none s [i] = true → X.holds args s none s [i] = true ∧ Y.holds args s none s [i] = true := by
      intro X Y hxy
      simp only [Cond.holds, Cond.value] at hxy ⊢
      cases hx : X.value args s none s [i] with
      | none => simp [hx] at hxy
      | some bx => cases bx <;> simp_all
    obtain ⟨h5, h6⟩ : (Cond.exactly (.elem zTC (.index 0)) "java/lang/Integer").holds args s none s [i] = true ∧ (Cond.eq (.field (.elem zTC (.index 0)) "java/lang/Integer" "value" "I") (.sub (.index 0) (.int 128))).holds args s none s [i] = true := by
      have h7 : (Cond.and (Cond.exactly (.elem zTC (.index 0)) "java/lang/Integer") (Cond.eq (.field (.elem zTC (.index 0)) "java/lang/Integer" "value" "I") (.sub (.index 0) (.int 128)))).holds args s none s [i] = true := by
        unfold Cond.holds
        rw [h4]; rfl
      exact z_and _ _ h7
    obtain ⟨b, c, cb, k, e1, e2, e3, e4, e5, e6, e7⟩ := Cond.exactly_spec h5
    have e1' := e1
    simp [Term.eval, ht', hc, hneg, hnat] at e1'
    obtain ⟨hS, hfc, kC, hkC, hkind⟩ := hK
    obtain ⟨c0, k0, i0, f0, hi0, hf0⟩ := hS 0 (by decide)
    have hev : (Term.field (.elem zTC (.index 0)) "java/lang/Integer" "value" "I").eval args s none [i] s = some (.int (Int32.ofNat i - 128)) := by
      have hsub : (Term.sub (.index 0) (.int 128)).eval args s none [i] s = some (.int (Int32.ofNat i - 128)) := by
        simp [Term.eval]
      cases hv : (Term.field (.elem zTC (.index 0)) "java/lang/Integer" "value" "I").eval args s none [i] s with
      | none => simp [Cond.holds, Cond.value, hv] at h6
      | some w =>
        simp only [Cond.holds, Cond.value, hv, hsub] at h6
        cases w <;> simp_all
    obtain ⟨-, cb', p1, n1, n2, -, p4⟩ := Term.field_spec hi0 e1 hev
    cases e3.symm.trans p1
    rw [hf0] at p4
    have hcl : cb.cls = D.1 2 := by rw [e6]; exact Option.some.inj (e2.symm.trans hfc)
    refine ⟨b, e1', ?_⟩
    rw [zr_2 hd e3 n1 n2 hcl (fun q hq => by
      obtain rfl : q = 0 := by omega
      exact ⟨_, p4⟩)]
    have : zfs cb (D.2 2) 1 = [.int (Int32.ofNat i - 128)] := by
      show [(cb.slots[D.2 2 0]?).getD .null] = _
      rw [p4]; rfl
    rw [this]
  have h2 : ∀ i, i < 256 → ∃ b : Nat, zsr ce i = some b ∧ zabs D A s.heap b = some (.inr (2, [.int (Int32.ofNat i - 128)])) := fun i hi => by
    obtain ⟨b, h1, h2⟩ := key i hi
    exact ⟨b, by simp [zsr, h1], h2⟩
  refine ⟨fun j hj => ?_, h2⟩
  rw [hsz] at hj
  obtain ⟨b, h1, -⟩ := key j hj
  simp [zsr, h1, va_rf]
end ZST3
section ZST4
variable {s : State}
def zTS (own : String) (k : Nat) : Term := .string own k
def zTV (own : String) (k : Nat) : Term := .field (.string own k) "java/lang/String" "value" "[B"
/-- the words of a string of the start -/
def zSW (own : String) (k : Nat) (tx : List Nat) : List Cond := [Cond.exactly (.string own k) "java/lang/String", Cond.eq (.field (.string own k) "java/lang/String" "coder" "B") (.int 0), Cond.eq (.length (zTV own k)) (.int (Int32.ofNat tx.length)), Cond.exactly (zTV own k) "[B"] ++ (List.range tx.length).map fun i => Cond.eq (.elem (zTV own k) (.int (Int32.ofNat i))) (.int (Int32.ofNat (tx.getD i 0)))
theorem z_strW {args : Array Value} {D : va_G} {A : Nat → ClassId} (hd : zdist D A s) (hA3 : va_RA s (A 3) .byte) (hts : ∀ w ∈ lw_all, w.before args s = true) (hK : u_Kn s RJ6 TJ6 4 (D.1 22) (D.2 22)) {own : String} {k : Nat} {tx : List Nat} (hn : tx.length < 2 ^ 31) (hs : ∀ w ∈ zSW own k tx, w.before args s = true) :
    ∃ (a v : Nat) (h z : Value) (g : Nat → Int32), (Term.string own k).eval args s none [] s = some (.ref a) ∧ zabs D A s.heap a = some (.inr (22, [.ref v, .int 0, h, z])) ∧ zabs D A s.heap v = some (.inl (3, tx.length, .inl g)) ∧ ∀ i, i < tx.length → g i = Int32.ofNat (tx.getD i 0) := by
  refine z_str hd hA3 hts hK hn (hs _ ?_) (hs _ ?_) (hs _ ?_) (fun i hi => hs _ ?_) (hs _ ?_)
  · exact List.mem_append_left _ List.mem_cons_self
  · exact List.mem_append_left _ (List.mem_cons_of_mem _ List.mem_cons_self)
  · exact List.mem_append_left _ (List.mem_cons_of_mem _ (List.mem_cons_of_mem _ List.mem_cons_self))
  · exact List.mem_append_right _ (List.mem_map.mpr ⟨i, List.mem_range.mpr hi, rfl⟩)
  · exact List.mem_append_left _ (List.mem_cons_of_mem _ (List.mem_cons_of_mem _ (List.mem_cons_of_mem _ List.mem_cons_self)))
theorem z_mem_str : (∀ w ∈ zSW "TokenRing" 397 [32], w ∈ zNar) ∧ (∀ w ∈ zSW "TokenRing" 399 [], w ∈ zNar) ∧ (∀ w ∈ zSW "TokenRing" 407 [42], w ∈ zNar) ∧ (∀ w ∈ zSW "TokenRing" 410 [110, 111, 98, 111, 100, 121], w ∈ zNar) ∧ (∀ w ∈ zSW "TokenRing" 412 [45], w ∈ zNar) := by decide +kernel
def zTO : Term := .static "java/lang/Integer" "DigitOnes" "[B"
def zTT : Term := .static "java/lang/Integer" "DigitTens" "[B"
theorem z_digO : (zNar.drop 28).take 100 = (List.range 100).map fun i => Cond.eq (.elem zTO (.int (Int32.ofNat i))) (.int (Int32.ofNat (48 + i % 10))) := by decide +kernel
theorem z_digT : (zNar.drop 131).take 100 = (List.range 100).map fun i => Cond.eq (.elem zTT (.int (Int32.ofNat i))) (.int (Int32.ofNat (48 + i / 10))) := by decide +kernel
theorem z_mem_dig (i : Nat) (hi : i < 100) : Cond.eq (.elem zTO (.int (Int32.ofNat i))) (.int (Int32.ofNat (48 + i % 10))) ∈ zNar ∧ Cond.eq (.elem zTT (.int (Int32.ofNat i))) (.int (Int32.ofNat (48 + i / 10))) ∈ zNar := by
  refine ⟨List.mem_of_mem_drop (i := 28) (List.mem_of_mem_take (i := 100) ?_), List.mem_of_mem_drop (i := 131) (List.mem_of_mem_take (i := 100) ?_)⟩
  · rw [z_digO]; exact List.mem_map.mpr ⟨i, List.mem_range.mpr hi, rfl⟩
  · rw [z_digT]; exact List.mem_map.mpr ⟨i, List.mem_range.mpr hi, rfl⟩
theorem z_mem_rest : ∀ w ∈ [Cond.eq (.length zTO) (.int 100), Cond.exactly zTO "[B", Cond.eq (.length zTT) (.int 100), Cond.exactly zTT "[B", Cond.eq (.length zTC) (.int 256), Cond.arrayOf zTC (.object "java/lang/Integer"), Cond.all zTC (Cond.and (Cond.exactly (.elem zTC (.index 0)) "java/lang/Integer") (Cond.eq (.field (.elem zTC (.index 0)) "java/lang/Integer" "value" "I") (.sub (.index 0) (.int 128)))), Cond.exactly (.static "java/util/ArrayList" "DEFAULTCAPACITY_EMPTY_ELEMENTDATA" "[Ljava/lang/Object;") "[Ljava/lang/Object;", Cond.eq (.length (.static "java/util/ArrayList" "DEFAULTCAPACITY_EMPTY_ELEMENTDATA" "[Ljava/lang/Object;")) (.int 0), Cond.eq (.static "java/lang/Integer$IntegerCache" "high" "I") (.int 127), Cond.eq (.static "java/lang/String" "COMPACT_STRINGS" "Z") (.int 1), Cond.isRef (.static "jdk/internal/util/Preconditions" "SIOOBE_FORMATTER" "Ljava/util/function/BiFunction;"), Cond.exactly (.static "java/util/TreeMap" "UNBOUNDED" "Ljava/lang/Object;") "java/lang/Object", Cond.isRef (.mirror "[Ljava/lang/Object;"), Cond.isRef (.static "java/lang/Throwable" "UNASSIGNED_STACK" "[Ljava/lang/StackTraceElement;"), Cond.isRef (.static "java/lang/Throwable" "SUPPRESSED_SENTINEL" "Ljava/util/List;"), Cond.methodLink "TokenRing" 304 ⟨"java/util/SortedMap", "size", "()I"⟩, Cond.interfaceMethod "java/util/SortedMap" "java/util/Map" "size" "()I"], w ∈ zNar := by decide +kernel
theorem z_mem_nc : ∀ z ∈ zNC, Cond.not (.castable z.1 z.2) ∈ zNar := by decide +kernel
theorem z_start {b L : Nat} {xs : Nat → Int32} (hts : ∀ w ∈ lw_tbl, w.before #[Value.ref b] s = true) (hg : (Jvm.Cond.and given_1 narrow_1).before #[Value.ref b] s = true) (hX : va_X b L xs s s.heap) : ∃ G : ZG, zV G s ∧ G.2.2.1 = s.heap ∧ zKok G.2.2.2 b L xs := by
  have hs : ∀ w ∈ zNar, w.before #[Value.ref b] s = true := flat_of_before _ hg
  have hsr := fun w hw => hs w (z_mem_rest w hw)
  simp only [List.forall_mem_cons] at hsr
  obtain ⟨r1, r2, r3, r4, r5, r6, r7, r8, r9, r10, r11, r12, r13, r14, r15, r16, r17, r18, -⟩ := hsr
  have hla : ∀ w ∈ lw_all, w.before #[Value.ref b] s = true := fun w hw => hts w (lw_all_tbl hw)
  obtain ⟨scr, hcb, hof, hkn, hsz, hval⟩ := hX
  obtain ⟨hnst, kS, hkS, compS, hkindS⟩ := hof
  obtain ⟨ac, cc, hce, hca, hcs⟩ := z_arrC (n := 256) (by decide) r5
  obtain ⟨hcc, hck, hcst, -⟩ := State.arrayAt?_spec hca
  obtain ⟨-, kC, hkC, compC, hkindC⟩ := (Cond.arrayOf_spec r6 hce hcc).1
  obtain ⟨D, hD⟩ := z_cls hts
  obtain ⟨A, hA5, hA6, hA⟩ := z_arrs hts (c5 := cc.cls) (c6 := scr.cls) ⟨kC, compC, hkC, hkindC⟩ ⟨kS, compS, hkS, hkindS⟩
  have hK2 := (hD 2 _ rfl).1
  have hK22 := (hD 22 _ rfl).1
  have hd : zdist D A s := by
    refine ⟨fun t ty ht => (hA t ty ht).1, ?_, ?_, fun e => ?_⟩
    · obtain ⟨-, -, k, h1, h2⟩ := hK2; exact ⟨k, h1, h2⟩
    · obtain ⟨-, -, k, h1, h2⟩ := hK22; exact ⟨k, h1, h2⟩
    · obtain ⟨k1, a1, b1⟩ := Vm.findClass_spec hK2.2.1
      obtain ⟨k2, a2, b2⟩ := Vm.findClass_spec hK22.2.1
      rw [e] at a1
      cases a1.symm.trans a2
      exact absurd (b1.symm.trans b2) (by decide)
  have hA3 : va_RA s (A 3) .byte := (hA 3 _ rfl).2 (by decide)
  obtain ⟨aO, gO, eO, zO', fO⟩ := z_bytes hd hA3 (t := zTO) (n := 100) (f := fun i => Int32.ofNat (48 + i % 10)) (by decide) r1 (fun i hi => hs _ (z_mem_dig i hi).1) r2
  obtain ⟨aT, gT, eT, zT', fT⟩ := z_bytes hd hA3 (t := zTT) (n := 100) (f := fun i => Int32.ofNat (48 + i / 10)) (by decide) r3 (fun i hi => hs _ (z_mem_dig i hi).2) r4
  obtain ⟨hCr, hCb⟩ := z_all hd hK2 hla hce hca hcs r7
  obtain ⟨m1, m2, m3, m4, m5⟩ := z_mem_str
  obtain ⟨a10, v10, h10, z10, g10, e10, x10, y10, w10⟩ := z_strW hd hA3 hla hK22 (by decide) (fun w hw => hs w (m1 w hw))
  obtain ⟨a11, v11, h11, z11, g11, e11, x11, y11, w11⟩ := z_strW hd hA3 hla hK22 (by decide) (fun w hw => hs w (m2 w hw))
  obtain ⟨a12, v12, h12, z12, g12, e12, x12, y12, w12⟩ := z_strW hd hA3 hla hK22 (by decide) (fun w hw => hs w (m3 w hw))
  obtain ⟨a13, v13, h13, z13, g13, e13, x13, y13, w13⟩ := z_strW hd hA3 hla hK22 (by decide) (fun w hw => hs w (m4 w hw))
  obtain ⟨a14, v14, h14, z14, g14, e14, x14, y14, w14⟩ := z_strW hd hA3 hla hK22 (by decide) (fun w hw => hs w (m5 w hw))
  obtain ⟨aE, cE, eE, hEa, hEs⟩ := z_arrC (n := 0) (by decide) r9
  obtain ⟨hEc, hE1, hE2, -⟩ := State.arrayAt?_spec hEa
  have hEcl : cE.cls = A 4 := by
    obtain ⟨a', c, ce', k, e1, e2, e3, e4, -, e6, -⟩ := Cond.exactly_spec r8
    cases eE.symm.trans e1
    cases hEc.symm.trans e3
    rw [e6]
    obtain ⟨k4, c4, q1, q2, q3, q4⟩ := (hA 4 _ rfl).2 (by decide)
    exact Option.some.inj (e2.symm.trans q4)
  obtain ⟨aU, -, -, -, eU, -⟩ := Cond.exactly_spec r13
  obtain ⟨vS, eS, hvS⟩ := Cond.isRef_spec r12
  obtain ⟨mi, hmi⟩ := va_Mi.of r14
  have hA0 : ∀ (G : ZG), G.2.2.1 = s.heap → ∀ a : Nat, a < s.heap.size → ¬ zA G a := fun G hG a ha h => by
    have h : G.2.2.1.size ≤ a := h
    rw [hG] at h
    omega
  let k5 : Nat := match vS with
    | .ref a => a + 1
    | _ => 0
  let K : ZK := (fun i => match i with | 0 => ac | 1 => aE | 2 => aT | 3 => aO | 4 => aU | 5 => k5 | 10 => a10 | 11 => a11 | 12 => a12 | 13 => a13 | 14 => a14 | _ => mi, zabs D A s.heap)
  have hk5 : va_rf (zoptK K) = vS := by
    show va_rf (if k5 = 0 then none else some (k5 - 1)) = vS
    cases vS with
    | ref a => simp [k5, va_rf]
    | null => simp [k5, va_rf]
    | _ => exact absurd (show false = true from hvS) (by decide)
  refine ⟨(D, A, s.heap, K), ⟨hD, hA, fun w hw => ?_, ?_, ?_, ?_, ⟨hmi, va_AO.of (hts _ q345), va_Dc.of (hts _ q3357), fun z hz => va_Nc.of (hs _ (z_mem_nc z hz)), va_any rfl r17, va_any rfl r18, va_any rfl (hts _ q2341), va_any rfl (hts _ q2350), va_any rfl (hts _ q2349)⟩, ⟨vx_Zqof (hts _ q965) (hts _ (lw_all_tbl q107)) r15 (hA0 _ rfl), vx_Zqof (hts _ q967) (hts _ (lw_all_tbl q107)) r16 (hA0 _ rfl)⟩, fun a e h => zabs_at h⟩, rfl, ?_⟩
  · have hw2 := (List.mem_filter.mp hw).2
    have hb := hts w (List.mem_filter.mp hw).1
    cases w <;> first | exact va_any rfl hb | (simp [zkind] at hw2)
  · exact zhl_cons (va_Fw.of (hts _ q441) (hts _ q440) (hts _ q830) (hts _ q828) (hts _ q826)) (zhl_cons (va_Fw.of (hts _ q847) (hts _ q846) (hts _ q874) (hts _ q884) (hts _ q882)) (zhl_cons (va_Fw.of (hts _ q888) (hts _ q887) (hts _ q1093) (hts _ q1091) (hts _ q882)) (zhl_cons (va_Fw.of (hts _ q847) (hts _ q846) (hts _ q868) (hts _ q866) (hts _ q864)) (zhl_cons (va_Fw.of (hts _ q888) (hts _ q887) (hts _ q1044) (hts _ q1042) (hts _ q864)) (zhl_cons (va_Fw.of (hts _ q847) (hts _ q846) (hts _ q852) (hts _ q850) (hts _ q848)) (zhl_cons (va_Fw.of (hts _ q888) (hts _ q887) (hts _ q892) (hts _ q890) (hts _ q848)) (zhl_cons (va_Fw.of (hts _ q847) (hts _ q846) (hts _ q880) (hts _ q878) (hts _ q876)) (zhl_cons (va_Fw.of (hts _ q888) (hts _ q887) (hts _ q1075) (hts _ q1073) (hts _ q876)) (zhl_cons (va_Fw.of (hts _ q529) (hts _ q528) (hts _ q534) (hts _ q532) (hts _ q530)) (zhl_cons (va_Fw.of (hts _ q1475) (hts _ q1474) (hts _ q1480) (hts _ q1478) (hts _ q1476)) (zhl_cons (va_Fw.of (hts _ q2515) (hts _ q2514) (hts _ q2519) (hts _ q2518) (hts _ q2516)) (zhl_cons (va_Fw.of (hts _ q2527) (hts _ q2526) (hts _ q2531) (hts _ q2529) (hts _ q2516)) zhl_nil))))))))))))
  · have hq : ∀ (C n d : String) (v : Value), (Cond.laysStatic C n d) ∈ lw_tbl → Cond.initialized C ∈ lw_tbl → (Term.static C n d).eval #[Value.ref b] s none [] s = some v → va_Z C n d v (zA (D, A, s.heap, K)) s s.heap := fun C n d v h1 h2 h3 => va_Zof (hts _ h1) (hts _ h2) h3 (hA0 _ rfl)
    exact zhl_cons (hq _ _ _ _ q908 (lw_all_tbl q113) hce) (zhl_cons (hq _ _ _ _ q906 (lw_all_tbl q113) (z_eqi r10)) (zhl_cons (hq _ _ _ _ q1530 (lw_all_tbl q133) eE) (zhl_cons (hq _ _ _ _ q1240 (lw_all_tbl q112) eT) (zhl_cons (hq _ _ _ _ q1238 (lw_all_tbl q112) eO) (zhl_cons (hq _ _ _ _ q780 (lw_all_tbl q98) eU) (zhl_cons (hq _ _ _ _ q368 (lw_all_tbl q103) (z_eqi r11)) (zhl_cons (hq _ _ _ _ q740 (lw_all_tbl q121) (by rw [hk5]; exact eS)) zhl_nil)))))))
  · exact zhl_cons (vk_R.of (hts _ q1394) e10) (zhl_cons (vk_R.of (hts _ q1395) e11) (zhl_cons (vk_R.of (hts _ q1398) e12) (zhl_cons (vk_R.of (hts _ q1499) e13) (zhl_cons (vk_R.of (hts _ q2734) e14) zhl_nil))))
  · have hnst' : scr.vm.isStatics = false := by
      cases hv : scr.vm <;> first | rfl | exact absurd hv (hnst _)
    refine ⟨⟨zsi scr, ?_, fun j hj => by simp [zsi, hval j hj]⟩, ⟨zsr cc, ?_, hCb⟩, ⟨zsr cE, ?_⟩, ⟨gT, zT', fT⟩, ⟨gO, zO', fO⟩, ⟨v10, h10, z10, g10, x10, y10, w10⟩, ⟨v11, h11, z11, g11, x11, y11, w11⟩, ⟨v12, h12, z12, g12, x12, y12, w12⟩, ⟨v13, h13, z13, g13, x13, y13, w13⟩, ⟨v14, h14, z14, g14, x14, y14, w14⟩⟩
    · have := zr6 (D := D) (A := A) hcb hkn hnst' hA6.symm (fun j hj => by rw [hsz] at hj; simp [zsi, hval j hj])
      rw [hsz] at this
      exact this
    · have := zr5 hd hcc hck hcst hA5.symm hCr
      rw [hcs] at this
      exact this
    · have := zr4 hd hEc hE1 hE2 hEcl (fun j hj => by rw [hEs] at hj; cases hj)
      rw [hEs] at this
      exact this
end ZST4
