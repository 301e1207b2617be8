/-! ===== THE START: out of the claim's premises to the P-layer ===== -/
section ZSTART
variable {args : Array Value} {s : State}
theorem z_eqi {t : Term} {z : Int32} (h : (Cond.eq t (.int z)).before args s = true) : t.eval args s none [] s = some (.int z) := by
  cases hv : t.eval args s none [] s with
  | none => simp [Cond.before, Cond.holds, Cond.value, hv] at h
  | some w =>
    have hz : (Term.int z).eval args s none [] s = some (.int z) := rfl
    simp only [Cond.before, Cond.holds, Cond.value, hv, hz] at h
    cases w <;> simp_all
theorem z_sel_priv {y z : MethodName} {C : String} (hy : y.cls ≠ "java/lang/invoke/MethodHandle" ∧ y.cls ≠ "java/lang/invoke/VarHandle") (hz : z.cls = y.cls) (hsel : ∃ x, (Cond.selects C x z).before args s = true) (hpriv : (Cond.privateMethod y).before args s = true) (hinst : (Cond.instanceMethod y).before args s = true) : (Cond.selects C y y).before args s = true := by
  obtain ⟨x, hsel⟩ := hsel
  obtain ⟨c, r, m, hc, -, hm, -, k, hk, hni⟩ := Cond.selects_spec hsel
  obtain ⟨mk, methM, hnamed, hmethM, -, -⟩ := Cond.instanceMethod_spec hinst
  have hfound : s.methodFound? y.cls y.name y.desc = some mk := State.methodFound?_of_named hnamed hy
  have hcls : mk.cls = m.cls := by
    have h1 := findClass_of_methodNamed hnamed
    have h2 := findClass_of_methodNamed hm
    rw [hz] at h2
    exact Option.some.inj (h1.symm.trans h2)
  have hsl : selectMethod {} s.vm c mk = .method mk := selectMethod_private hmethM (Cond.privateMethod_at hpriv mk methM hnamed hmethM)
  simp only [Cond.before, Cond.holds, Cond.value, hc, hfound, hnamed, hsl, hcls, hk]
  simp; exact hni
theorem z_apart {ws : List Cond} {C : String} {T : u_T} {N : Nat} {cC : ClassId} {iS : Nat → Nat} (hts : ∀ w ∈ ws, w.before args s = true) (hin : ∀ w ∈ u_ws C T N, w ∈ ws) (ty : Nat → FieldType) (hty : ∀ k, k < N → parseFieldDescriptor (T k).2.2.1 = some (ty k)) (hnm : ∀ a, a < N → ∀ b, b < N → a ≠ b → (T a).2.1 ≠ (T b).2.1 ∨ ty a ≠ ty b) (hK : u_Kn s C T N cC iS) : ∀ x y, x < N → y < N → x ≠ y → iS x ≠ iS y := by
  intro x y hx hy hne
  obtain ⟨hS, hfc, kC, hkC, hkind⟩ := hK
  obtain ⟨_, _, _, fa, hia, ea⟩ := hS x hx
  obtain ⟨_, _, _, fb, hib, eb⟩ := hS y hy
  rcases hnm x hx y hy hne with h | h
  · rw [← ea, ← eb]
    refine u_apart (u_lays hts hin hx) (u_lays hts hin hy) hia hib ?_
    rw [(State.fieldFound?_type hia (hty x hx)).1, (State.fieldFound?_type hib (hty y hy)).1]
    exact h
  · intro e
    have ha := (u_facts hfc hkC (u_lays hts hin hx) hia).2.2
    have hb := (u_facts hfc hkC (u_lays hts hin hy) hib).2.2
    rw [(State.fieldFound?_type hia (hty x hx)).2, ea, e] at ha
    rw [(State.fieldFound?_type hib (hty y hy)).2, eb] at hb
    exact h (Option.some.inj (ha.symm.trans hb))
theorem z_kn {C : String} {T : u_T} {N n : Nat} (hts : ∀ w ∈ lw_tbl, w.before args s = true) (hin : ∀ w ∈ u_ws C T N, w ∈ lw_all) (ty : Nat → FieldType) (hty : ∀ k, k < N → parseFieldDescriptor (T k).2.2.1 = some (ty k)) (hnm : ∀ a, a < N → ∀ b, b < N → a ≠ b → (T a).2.1 ≠ (T b).2.1 ∨ ty a ≠ ty b) (hi : Cond.instantiable C n ∈ lw_tbl) : ∃ p : ClassId × (Nat → Nat), u_Kn s C T N p.1 p.2 ∧ ∀ x y, x < N → y < N → x ≠ y → p.2 x ≠ p.2 y := by
  obtain ⟨cC, iS, hK⟩ := u_known (ws := lw_all) (fun w h => hts w (lw_all_tbl h)) hin (hts _ hi)
  exact ⟨(cC, iS), hK, z_apart (ws := lw_all) (fun w h => hts w (lw_all_tbl h)) hin ty hty hnm hK⟩
theorem z_kns (hts : ∀ w ∈ lw_tbl, w.before args s = true) : ∀ r ∈ zCL, ∃ p : ClassId × (Nat → Nat), u_Kn s r.1 r.2.1 r.2.2 p.1 p.2 ∧ ∀ x y, x < r.2.2 → y < r.2.2 → x ≠ y → p.2 x ≠ p.2 y :=
  zhl_cons (z_kn hts in_J1 tyJ1 tyJ1_ok (by decide +kernel) (lw_all_tbl q178)) <|
  zhl_cons (z_kn hts in_J11 tyJ11 tyJ11_ok (by decide +kernel) (lw_all_tbl q1801)) <|
  zhl_cons (z_kn hts in_J13 tyJ13 tyJ13_ok (by decide +kernel) (lw_all_tbl q909)) <|
  zhl_cons (z_kn hts in_J21 tyJ21 tyJ21_ok (by decide +kernel) (lw_all_tbl q429)) <|
  zhl_cons (z_kn hts in_J22 tyJ22 tyJ22_ok (by decide +kernel) (lw_all_tbl q449)) <|
  zhl_cons (z_kn hts in_J23 tyJ23 tyJ23_ok (by decide +kernel) (lw_all_tbl q481)) <|
  zhl_cons (z_kn hts in_J25 tyJ25 tyJ25_ok (by decide +kernel) (lw_all_tbl q506)) <|
  zhl_cons (z_kn hts in_J27 tyJ27 tyJ27_ok (by decide +kernel) (lw_all_tbl q804)) <|
  zhl_cons (z_kn hts in_J28 tyJ28 tyJ28_ok (by decide +kernel) (lw_all_tbl q833)) <|
  zhl_cons (z_kn hts in_J29 tyJ29 tyJ29_ok (by decide +kernel) (lw_all_tbl q939)) <|
  zhl_cons (z_kn hts in_J3 tyJ3 tyJ3_ok (by decide +kernel) (lw_all_tbl q336)) <|
  zhl_cons (z_kn hts in_J31 tyJ31 tyJ31_ok (by decide +kernel) (lw_all_tbl q1521)) <|
  zhl_cons (z_kn hts in_J33 tyJ33 tyJ33_ok (by decide +kernel) (lw_all_tbl q1664)) <|
  zhl_cons (z_kn hts in_J34 tyJ34 tyJ34_ok (by decide +kernel) (lw_all_tbl q1848)) <|
  zhl_cons (z_kn hts in_J35 tyJ35 tyJ35_ok (by decide +kernel) (lw_all_tbl q1986)) <|
  zhl_cons (z_kn hts in_J36 tyJ36 tyJ36_ok (by decide +kernel) (lw_all_tbl q1286)) <|
  zhl_cons (z_kn hts in_J40 tyJ40 tyJ40_ok (by decide +kernel) (lw_all_tbl q1448)) <|
  zhl_cons (z_kn hts in_J41 tyJ41 tyJ41_ok (by decide +kernel) (lw_all_tbl q1359)) <|
  zhl_cons (z_kn hts in_J43 tyJ43 tyJ43_ok (by decide +kernel) (lw_all_tbl q2293)) <|
  zhl_cons (z_kn hts in_J44 tyJ44 tyJ44_ok (by decide +kernel) (lw_all_tbl q1123)) <|
  zhl_cons (z_kn hts in_J45 tyJ45 tyJ45_ok (by decide +kernel) (lw_all_tbl q2754)) <|
  zhl_cons (z_kn hts in_J5 tyJ5 tyJ5_ok (by decide +kernel) (lw_all_tbl q359)) <|
  zhl_cons (z_kn hts in_J6 tyJ6 tyJ6_ok (by decide +kernel) (lw_all_tbl q1254)) <|
  zhl_cons (z_kn hts in_J8 tyJ8 tyJ8_ok (by decide +kernel) (lw_all_tbl q982)) <|
  zhl_cons (z_kn hts in_X1 tyX1 tyX1_ok (by decide +kernel) (lw_all_tbl q164)) <|
  zhl_cons (z_kn hts in_X10 tyX10 tyX10_ok (by decide +kernel) (lw_all_tbl q2258)) <|
  zhl_cons (z_kn hts in_X11 tyX11 tyX11_ok (by decide +kernel) (lw_all_tbl q2409)) <|
  zhl_cons (z_kn hts in_X12 tyX12 tyX12_ok (by decide +kernel) (lw_all_tbl q2463)) <|
  zhl_cons (z_kn hts in_X14 tyX14 tyX14_ok (by decide +kernel) (lw_all_tbl q2572)) <|
  zhl_cons (z_kn hts in_X15 tyX15 tyX15_ok (by decide +kernel) (lw_all_tbl q2595)) <|
  zhl_cons (z_kn hts in_X16 tyX16 tyX16_ok (by decide +kernel) (lw_all_tbl q2617)) <|
  zhl_cons (z_kn hts in_X17 tyX17 tyX17_ok (by decide +kernel) (lw_all_tbl q2641)) <|
  zhl_cons (z_kn hts in_X18 tyX18 tyX18_ok (by decide +kernel) (lw_all_tbl q2659)) <|
  zhl_cons (z_kn hts in_X19 tyX19 tyX19_ok (by decide +kernel) (lw_all_tbl q2677)) <|
  zhl_cons (z_kn hts in_X2 tyX2 tyX2_ok (by decide +kernel) (lw_all_tbl q172)) <|
  zhl_cons (z_kn hts in_X3 tyX3 tyX3_ok (by decide +kernel) (lw_all_tbl q2824)) <|
  zhl_cons (z_kn hts in_X4 tyX4 tyX4_ok (by decide +kernel) (lw_all_tbl q1782)) <|
  zhl_cons (z_kn hts in_X5 tyX5 tyX5_ok (by decide +kernel) (lw_all_tbl q1515)) <|
  zhl_cons (z_kn hts in_X6 tyX6 tyX6_ok (by decide +kernel) (lw_all_tbl q1731)) <|
  zhl_cons (z_kn hts in_X7 tyX7 tyX7_ok (by decide +kernel) (lw_all_tbl q1926)) <|
  zhl_cons (z_kn hts in_X8 tyX8 tyX8_ok (by decide +kernel) (lw_all_tbl q2066)) <|
  zhl_cons (z_kn hts in_X9 tyX9 tyX9_ok (by decide +kernel) (lw_all_tbl q2239)) <|
  zhl_nil
theorem z_cls (hts : ∀ w ∈ lw_tbl, w.before args s = true) : ∃ D : va_G, ∀ (ci : Nat) (r : vw_C), zCL[ci]? = some r → u_Kn s r.1 r.2.1 r.2.2 (D.1 ci) (D.2 ci) ∧ ∀ x y, x < r.2.2 → y < r.2.2 → x ≠ y → D.2 ci x ≠ D.2 ci y := by
  have h : ∀ ci : Nat, ∃ p : ClassId × (Nat → Nat), ∀ r : vw_C, zCL[ci]? = some r → u_Kn s r.1 r.2.1 r.2.2 p.1 p.2 ∧ ∀ x y, x < r.2.2 → y < r.2.2 → x ≠ y → p.2 x ≠ p.2 y := by
    intro ci
    cases hr : zCL[ci]? with
    | none => exact ⟨((0 : Nat), fun _ => 0), fun r h => nomatch h⟩
    | some r =>
      obtain ⟨p, hp⟩ := z_kns hts r (List.mem_of_getElem? hr)
      exact ⟨p, fun r' h => by cases h; exact hp⟩
  exact ⟨(fun ci => (Classical.choose (h ci)).1, fun ci => (Classical.choose (h ci)).2), fun ci r hr => Classical.choose_spec (h ci) r hr⟩
theorem z_arrs (hts : ∀ w ∈ lw_tbl, w.before args s = true) {c5 c6 : ClassId} (h5 : ∃ (kA : Class) (comp : ClassId), s.vm.classes[c5]? = some kA ∧ kA.kind = .array comp (.object "java/lang/Integer")) (h6 : ∃ (kA : Class) (comp : ClassId), s.vm.classes[c6]? = some kA ∧ kA.kind = .array comp .int) :
    ∃ A : Nat → ClassId, A 5 = c5 ∧ A 6 = c6 ∧ ∀ (t : Nat) (ty : FieldType), zTY[t]? = some ty → (∃ (kA : Class) (comp : ClassId), s.vm.classes[A t]? = some kA ∧ kA.kind = .array comp ty) ∧ (t < 5 → va_RA s (A t) ty) := by
  obtain ⟨c0, k0, m0, f0, g0, e0⟩ := Cond.arrayClass_spec (hts _ (lw_all_tbl q2908))
  obtain ⟨c1, k1, m1, f1, g1, e1⟩ := Cond.arrayClass_spec (hts _ (lw_all_tbl q3284))
  obtain ⟨c2, k2, m2, f2, g2, e2⟩ := Cond.arrayClass_spec (hts _ (lw_all_tbl q3285))
  obtain ⟨c3, k3, m3, f3, g3, e3⟩ := Cond.arrayClass_spec (hts _ (lw_all_tbl q390))
  obtain ⟨m4, c4, k4, f4, -, g4, e4, n4⟩ := Cond.arrayOver_spec (hts _ q345)
  refine ⟨fun t => match t with | 0 => c0 | 1 => c1 | 2 => c2 | 3 => c3 | 4 => c4 | 5 => c5 | _ => c6, rfl, rfl, ?_⟩
  intro t ty ht
  match t with
  | 0 => cases ht; exact ⟨⟨k0, m0, g0, e0⟩, fun _ => f0⟩
  | 1 => cases ht; exact ⟨⟨k1, m1, g1, e1⟩, fun _ => f1⟩
  | 2 => cases ht; exact ⟨⟨k2, m2, g2, e2⟩, fun _ => f2⟩
  | 3 => cases ht; exact ⟨⟨k3, m3, g3, e3⟩, fun _ => f3⟩
  | 4 => cases ht; exact ⟨⟨k4, m4, g4, e4⟩, fun _ => ⟨k4, m4, g4, e4, f4, n4⟩⟩
  | 5 => cases ht; exact ⟨h5, fun h => absurd h (by decide)⟩
  | 6 => cases ht; exact ⟨h6, fun h => absurd h (by decide)⟩
  | n + 7 => simp [zTY] at ht
/-! the constants' cells, read -/
def zsi (cell : Cell) (j : Nat) : Int32 := match cell.slots[j]? with
  | some (.int v) => v
  | _ => 0
def zsr (cell : Cell) (j : Nat) : Option Nat := match cell.slots[j]? with
  | some (.ref v) => some v
  | _ => none
def zints (cell : Cell) : Prop := ∀ j, j < cell.slots.size → cell.slots[j]? = some (.int (zsi cell j))
def zrefs (cell : Cell) : Prop := ∀ j, j < cell.slots.size → cell.slots[j]? = some (va_rf (zsr cell j))
def zfs (cell : Cell) (iS : Nat → Nat) (N : Nat) : List Value := (List.range N).map fun k => (cell.slots[iS k]?).getD .null
def zhas (cell : Cell) (iS : Nat → Nat) (N : Nat) : Prop := ∀ k, k < N → ∃ v, cell.slots[iS k]? = some v
noncomputable def zabsC (D : va_G) (A : Nat → ClassId) (cell : Cell) : Option va_E := by
  classical exact
  if cell.vm = .unknown ∨ cell.vm.isStatics = true then none
  else if cell.cls = A 6 ∧ zints cell then some (.inl (6, cell.slots.size, .inl (zsi cell)))
  else if cell.cls = A 3 ∧ zints cell then some (.inl (3, cell.slots.size, .inl (zsi cell)))
  else if cell.cls = A 4 ∧ zrefs cell then some (.inl (4, cell.slots.size, .inr (.inr (.inr (.inr (zsr cell))))))
  else if cell.cls = A 5 ∧ zrefs cell then some (.inl (5, cell.slots.size, .inr (.inr (.inr (.inr (zsr cell))))))
  else if cell.cls = D.1 2 ∧ zhas cell (D.2 2) 1 then some (.inr (2, zfs cell (D.2 2) 1))
  else if cell.cls = D.1 22 ∧ zhas cell (D.2 22) 4 then some (.inr (22, zfs cell (D.2 22) 4))
  else none
noncomputable def zabs (D : va_G) (A : Nat → ClassId) (H : Heap) : ZH := fun a => match H[a]? with
  | none => none
  | some ce => zabsC D A ce
theorem zfs_at {cell : Cell} {iS : Nat → Nat} {N : Nat} (h : zhas cell iS N) (k : Nat) (hk : k < N) : cell.slots[iS k]? = some (vp_V (zfs cell iS N) k) := by
  obtain ⟨v, hv⟩ := h k hk
  rw [hv]
  simp [vp_V, zfs, List.getElem?_map, hk, hv]
theorem zabs_at {D : va_G} {A : Nat → ClassId} {H : Heap} {K : ZK} {a : Nat} {e : va_E} (h : zabs D A H a = some e) : zatK (D, A, H, K) a e H := by
  unfold zabs at h
  cases hc : H[a]? with
  | none => rw [hc] at h; cases h
  | some cell =>
  rw [hc] at h
  dsimp only at h
  unfold zabsC at h
  split at h
  · cases h
  · rename_i h0
    have n1 : cell.vm ≠ .unknown := fun e => h0 (Or.inl e)
    have n2 : cell.vm.isStatics = false := by
      cases hb : cell.vm.isStatics with
      | false => rfl
      | true => exact absurd (Or.inr hb) h0
    refine ⟨cell, hc, n1, n2, ?_⟩
    split at h
    · rename_i g; cases h; exact ⟨g.1, rfl, g.2⟩
    · split at h
      · rename_i g; cases h; exact ⟨g.1, rfl, g.2⟩
      · split at h
        · rename_i g; cases h; exact ⟨g.1, rfl, g.2⟩
        · split at h
          · rename_i g; cases h; exact ⟨g.1, rfl, g.2⟩
          · split at h
            · rename_i g; cases h; exact ⟨g.1, _, rfl, fun k hk => zfs_at g.2 k hk⟩
            · split at h
              · rename_i g; cases h; exact ⟨g.1, _, rfl, fun k hk => zfs_at g.2 k hk⟩
              · cases h
/-- what is known of the classes of constants -/
def zdist (D : va_G) (A : Nat → ClassId) (s : State) : Prop := (∀ (t : Nat) (ty : FieldType), zTY[t]? = some ty → ∃ (kA : Class) (comp : ClassId), s.vm.classes[A t]? = some kA ∧ kA.kind = .array comp ty) ∧ (∃ k : Class, s.vm.classes[D.1 2]? = some k ∧ k.kind = .ordinary) ∧ (∃ k : Class, s.vm.classes[D.1 22]? = some k ∧ k.kind = .ordinary) ∧ D.1 2 ≠ D.1 22
theorem zdist.tt {D : va_G} {A : Nat → ClassId} (h : zdist D A s) {t u : Nat} {ty tz : FieldType} (ht : zTY[t]? = some ty) (hu : zTY[u]? = some tz) (hne : ty ≠ tz) : A t ≠ A u := by
  intro e
  obtain ⟨k1, c1, a1, b1⟩ := h.1 t ty ht
  obtain ⟨k2, c2, a2, b2⟩ := h.1 u tz hu
  rw [e] at a1
  cases a1.symm.trans a2
  rw [b1] at b2
  injection b2 with _ b3
  exact hne b3
theorem zdist.to {D : va_G} {A : Nat → ClassId} (h : zdist D A s) {t ci : Nat} {ty : FieldType} (ht : zTY[t]? = some ty) (hc : ci = 2 ∨ ci = 22) : D.1 ci ≠ A t := by
  intro e
  obtain ⟨k1, c1, a1, b1⟩ := h.1 t ty ht
  obtain ⟨k2, a2, b2⟩ : ∃ k : Class, s.vm.classes[D.1 ci]? = some k ∧ k.kind = .ordinary := by
    rcases hc with rfl | rfl
    · exact h.2.1
    · exact h.2.2.1
  rw [e] at a2
  cases a1.symm.trans a2
  rw [b1] at b2
  cases b2
section ZREAD
variable {D : va_G} {A : Nat → ClassId} {a : Nat} {cell : Cell}
theorem zr6 (h : s.heap[a]? = some cell) (n1 : cell.vm ≠ .unknown) (n2 : cell.vm.isStatics = false) (hcl : cell.cls = A 6) (hi : zints cell) : zabs D A s.heap a = some (.inl (6, cell.slots.size, .inl (zsi cell))) := by
  unfold zabs
  rw [h]
  dsimp only
  unfold zabsC
  rw [if_neg (by rintro (e | e); exact n1 e; rw [n2] at e; cases e), if_pos ⟨hcl, hi⟩]
theorem zr3 (hd : zdist D A s) (h : s.heap[a]? = some cell) (n1 : cell.vm ≠ .unknown) (n2 : cell.vm.isStatics = false) (hcl : cell.cls = A 3) (hi : zints cell) : zabs D A s.heap a = some (.inl (3, cell.slots.size, .inl (zsi cell))) := by
  have e6 : cell.cls ≠ A 6 := by rw [hcl]; exact hd.tt (ty := .byte) (tz := .int) rfl rfl (by decide)
  unfold zabs
  rw [h]
  dsimp only
  unfold zabsC
  rw [if_neg (by rintro (e | e); exact n1 e; rw [n2] at e; cases e), if_neg (fun e => e6 e.1), if_pos ⟨hcl, hi⟩]
theorem zr4 (hd : zdist D A s) (h : s.heap[a]? = some cell) (n1 : cell.vm ≠ .unknown) (n2 : cell.vm.isStatics = false) (hcl : cell.cls = A 4) (hi : zrefs cell) : zabs D A s.heap a = some (.inl (4, cell.slots.size, .inr (.inr (.inr (.inr (zsr cell)))))) := by
  have e6 : cell.cls ≠ A 6 := by rw [hcl]; exact hd.tt (ty := .object "java/lang/Object") (tz := .int) rfl rfl (by decide)
  have e3 : cell.cls ≠ A 3 := by rw [hcl]; exact hd.tt (ty := .object "java/lang/Object") (tz := .byte) rfl rfl (by decide)
  unfold zabs
  rw [h]
  dsimp only
  unfold zabsC
  rw [if_neg (by rintro (e | e); exact n1 e; rw [n2] at e; cases e), if_neg (fun e => e6 e.1), if_neg (fun e => e3 e.1), if_pos ⟨hcl, hi⟩]
theorem zr5 (hd : zdist D A s) (h : s.heap[a]? = some cell) (n1 : cell.vm ≠ .unknown) (n2 : cell.vm.isStatics = false) (hcl : cell.cls = A 5) (hi : zrefs cell) : zabs D A s.heap a = some (.inl (5, cell.slots.size, .inr (.inr (.inr (.inr (zsr cell)))))) := by
  have e6 : cell.cls ≠ A 6 := by rw [hcl]; exact hd.tt (ty := .object "java/lang/Integer") (tz := .int) rfl rfl (by decide)
  have e3 : cell.cls ≠ A 3 := by rw [hcl]; exact hd.tt (ty := .object "java/lang/Integer") (tz := .byte) rfl rfl (by decide)
  have e4 : cell.cls ≠ A 4 := by rw [hcl]; exact hd.tt (ty := .object "java/lang/Integer") (tz := .object "java/lang/Object") rfl rfl (by decide)
  unfold zabs
  rw [h]
  dsimp only
  unfold zabsC
  rw [if_neg (by rintro (e | e); exact n1 e; rw [n2] at e; cases e), if_neg (fun e => e6 e.1), if_neg (fun e => e3 e.1), if_neg (fun e => e4 e.1), if_pos ⟨hcl, hi⟩]
theorem zr_2 (hd : zdist D A s) (h : s.heap[a]? = some cell) (n1 : cell.vm ≠ .unknown) (n2 : cell.vm.isStatics = false) (hcl : cell.cls = D.1 2) (hi : zhas cell (D.2 2) 1) : zabs D A s.heap a = some (.inr (2, zfs cell (D.2 2) 1)) := by
  have e6 : cell.cls ≠ A 6 := by rw [hcl]; exact hd.to (ty := .int) rfl (Or.inl rfl)
  have e3 : cell.cls ≠ A 3 := by rw [hcl]; exact hd.to (ty := .byte) rfl (Or.inl rfl)
  have e4 : cell.cls ≠ A 4 := by rw [hcl]; exact hd.to (ty := .object "java/lang/Object") rfl (Or.inl rfl)
  have e5 : cell.cls ≠ A 5 := by rw [hcl]; exact hd.to (ty := .object "java/lang/Integer") rfl (Or.inl rfl)
  unfold zabs
  rw [h]
  dsimp only
  unfold zabsC
  rw [if_neg (by rintro (e | e); exact n1 e; rw [n2] at e; cases e), if_neg (fun e => e6 e.1), if_neg (fun e => e3 e.1), if_neg (fun e => e4 e.1), if_neg (fun e => e5 e.1), if_pos ⟨hcl, hi⟩]
theorem zr_22 (hd : zdist D A s) (h : s.heap[a]? = some cell) (n1 : cell.vm ≠ .unknown) (n2 : cell.vm.isStatics = false) (hcl : cell.cls = D.1 22) (hi : zhas cell (D.2 22) 4) : zabs D A s.heap a = some (.inr (22, zfs cell (D.2 22) 4)) := by
  have e6 : cell.cls ≠ A 6 := by rw [hcl]; exact hd.to (ty := .int) rfl (Or.inr rfl)
  have e3 : cell.cls ≠ A 3 := by rw [hcl]; exact hd.to (ty := .byte) rfl (Or.inr rfl)
  have e4 : cell.cls ≠ A 4 := by rw [hcl]; exact hd.to (ty := .object "java/lang/Object") rfl (Or.inr rfl)
  have e5 : cell.cls ≠ A 5 := by rw [hcl]; exact hd.to (ty := .object "java/lang/Integer") rfl (Or.inr rfl)
  have e2 : cell.cls ≠ D.1 2 := by rw [hcl]; exact fun e => hd.2.2.2 e.symm
  unfold zabs
  rw [h]
  dsimp only
  unfold zabsC
  rw [if_neg (by rintro (e | e); exact n1 e; rw [n2] at e; cases e), if_neg (fun e => e6 e.1), if_neg (fun e => e3 e.1), if_neg (fun e => e4 e.1), if_neg (fun e => e5 e.1), if_neg (fun e => e2 e.1), if_pos ⟨hcl, hi⟩]
end ZREAD
end ZSTART
