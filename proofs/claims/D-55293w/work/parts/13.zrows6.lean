section ZR6
variable {β : Type} {x : ZX β} {K : ZK} {cc : ByteArray} {own nm : String} {n F L : Nat} {en : β → Option Value} {ret : Option FieldType} {xt : List ExceptionTableEntry} {pc : Nat} {lv lv' : List (Nat × Value)} {st : List Value} {f g : ZP β}
theorem znn {z : Int32} (hz : ¬ z < 0) : z.toInt = (z.toNatClampNeg : Int) := by
  have hz0 : (0 : Int) ≤ z.toInt := by
    have := Int32.not_lt.mp hz
    simpa using Int32.le_iff_toInt_le.mp this
  show z.toInt = ((z.toInt.toNat : Nat) : Int)
  omega
/-- the cell behind a copy -/
theorem zcopied {G : ZG} {t n0 n1 : Nat} {A B B' : (Nat → Int32) ⊕ (Nat → Int64) ⊕ (Nat → UInt32) ⊕ (Nat → UInt64) ⊕ (Nat → Option Nat)} {cs cd : Cell} {sp dp k : Nat} (hs : zcell G (.inl (t, n0, A)) cs) (hd : zcell G (.inl (t, n1, B)) cd) (h1 : sp + k ≤ n0) (h2 : dp + k ≤ n1) (hB : ∀ j, zval B' j = if dp ≤ j ∧ j < dp + k then zval A (sp + (j - dp)) else zval B j) : zcell G (.inl (t, n1, B')) (cd.storeRun dp (cs.stretch sp k)) ∧ (cd.storeRun dp (cs.stretch sp k)).vm = cd.vm ∧ (cd.storeRun dp (cs.stretch sp k)).cls = cd.cls := by
  obtain ⟨d1, d2, d3⟩ := hd
  obtain ⟨s1, s2, s3⟩ := hs
  have d2 : cd.slots.size = n1 := d2
  have s2 : cs.slots.size = n0 := s2
  obtain ⟨f1, f2, f3, -⟩ := cd.storeRun_facts dp (cs.stretch sp k)
  have hlen : (cs.stretch sp k).length = k := by simp [Cell.stretch]
  refine ⟨⟨f1.trans d1, f3.trans d2, fun j hj => ?_⟩, f2, f1⟩
  rw [Cell.storeRun_get _ _ _ _ (by rw [hlen, d2]; exact h2), hlen, hB]
  by_cases hj2 : dp ≤ j ∧ j < dp + k
  · rw [if_pos hj2, if_pos hj2]
    have hlt : j - dp < k := by omega
    have := s3 (sp + (j - dp)) (show sp + (j - dp) < n0 by omega)
    simp only [Cell.stretch, List.getElem?_map, List.getElem?_range hlt, Option.map_some]
    rw [Array.getD_eq_getD_getElem?, this]
    rfl
  · rw [if_neg hj2, if_neg hj2]
    exact d3 j hj
theorem zcell_read {G : ZG} {t k : Nat} {A : (Nat → Int32) ⊕ (Nat → Int64) ⊕ (Nat → UInt32) ⊕ (Nat → UInt64) ⊕ (Nat → Option Nat)} {cell : Cell} (h : zcell G (.inl (t, k, A)) cell) {j : Nat} (hj : j < k) : cell.slots.getD j .null = zval A j := by
  have := h.2.2 j hj
  rw [Array.getD_eq_getD_getElem?, this]
  rfl
theorem zO_copy {G : ZG} {s : State} {qs : List (Nat × Nat)} {H H' : Heap} {locs : List Loc} {a : Nat} {cell c2 : Cell} {L : List Loc} (hO : zO G s qs H locs) (h0 : H[a]? = some cell) (e : H'[a]? = some c2) (e1 : c2.cls = cell.cls) (e2 : c2.vm = cell.vm) (oq : ∀ q : Nat, q ≠ a → H'[q]? = H[q]?) (hL : ∀ z ∈ L, zA G z.base) : zO G s qs H' (locs ++ L) := by
  refine zO_step hO (fun q ce hq => ?_) hL
  by_cases hqa : q = a
  · subst hqa
    cases h0.symm.trans hq
    exact ⟨_, e, e1, e2⟩
  · exact ⟨ce, by rw [oq q hqa]; exact hq, rfl, rfl⟩
theorem zs_copyR (hE : zE x K cc own nm n F L en ret xt) {index : Nat} {a b : Option Nat} {sp dp k : Int32} (hl : Cond.methodLink own index arraycopyName ∈ lw_all) (hnat : Cond.native arraycopyName ∈ lw_all) (hstat : Cond.static arraycopyName ∈ lw_all) (hini : Cond.initialized "java/lang/System" ∈ lw_all) (hF : 1 ≤ F) (hL : (st.map fun v => v.category).sum + (nativeFrameWords "java/lang/System" "arraycopy" 5 + 11) ≤ L) (d : decode cc pc = .ok (.invokestatic index, 3)) (kk : zS x (pc + 3) lv st f) : zS x pc lv (.int k :: .int dp :: va_rf b :: .int sp :: va_rf a :: st) (zcopyR a sp b dp k f) := by
  have hts := zEts hE
  have hV := zEV hE
  have hr := zEr hE
  obtain ⟨p, l, e, R, s, m, args, below, meth, c, nL, G, enc, Q, X, mc, ms, qs⟩ := x
  dsimp only at hr
  intro ls hls h cb sb H locs cells slots hf hC hO h1 h2
  unfold zcopyR at hf
  cases hv : zarR h a 4 with
  | none => rw [hv] at hf; exact hf.elim
  | some r =>
    obtain ⟨y, n0, g0⟩ := r
    cases hw : zarR h b 4 with
    | none => rw [hv, hw] at hf; exact hf.elim
    | some r2 =>
      obtain ⟨z, n1, g1⟩ := r2
      rw [hv, hw] at hf
      obtain ⟨⟨f1, f2, f3, f4, f5, f6⟩, hf⟩ := hf
      obtain ⟨rfl, hy⟩ := zarR_spec hv
      obtain ⟨rfl, hz⟩ := zarR_spec hw
      obtain ⟨-, cs, s1, s2, s3⟩ := hC.1 y _ hy
      obtain ⟨hA, cd, d1, d2, d3⟩ := hC.1 z _ hz
      obtain ⟨-, kA, comp, r1, r2, r3, -⟩ := zV_RA hV (t := 4) rfl (by decide)
      obtain ⟨kE, hkE, -⟩ := Vm.findClass_spec r3
      have c3 := zcopied (B' := .inr (.inr (.inr (.inr (va_cpy g0 g1 sp.toNatClampNeg dp.toNatClampNeg k.toNatClampNeg))))) s3 d3 f4 f5 (fun j => by simp only [zval, va_cpy]; split <;> rfl)
      intro T hT X0
      obtain ⟨vm', X', step⟩ := X0.arraycopy hE.1 hE.2.2.2.2.1 (hts _ (zq hl)) (hts _ (zq hnat)) (hts _ (zq hstat)) (hts _ (zq hini)) (src := y) (dst := z) (cs := cs) (cd := cd) (srcPos := sp) (destPos := dp) (n := k) (by rw [hT]; exact s1) (by rw [hT]; exact d1)
        (by rw [s2]; exact fun _ h => nomatch h) (by rw [d2]; exact fun _ h => nomatch h) (by rw [s2]; exact fun h => nomatch h) (by rw [d2]; exact fun h => nomatch h) (by rw [s3.1]; exact r1) (by rw [d3.1]; exact r1) r2 r2 rfl f1 f2 f3
        (by rw [znn f1, znn f3, s3.2.1]; dsimp only; omega) (by rw [znn f2, znn f3, d3.2.1]; dsimp only; omega)
        (fun vm₁ hal i hi => by
          rw [zcell_read s3 (show sp.toNatClampNeg + i < n0 by omega)]
          have h6 := f6 i hi
          show _ ∧ State.takes _ _ (va_rf (g0 (sp.toNatClampNeg + i)))
          simp only [zval]
          cases hg : g0 (sp.toNatClampNeg + i) with
          | none => exact ⟨rfl, trivial⟩
          | some w =>
            rw [hg] at h6
            obtain ⟨cellV, g1, g2, ⟨kC, hkC⟩, hasg⟩ := zobjOK hV hC h6 zcastO
            obtain ⟨kC', hkC', -⟩ := hal.2.2 _ _ hkC
            obtain ⟨kE', hkE', -⟩ := hal.2.2 _ _ hkE
            refine ⟨rfl, cellV, (show T.heap[w]? = some cellV by rw [hT]; exact g1), (fun q h => by rw [h] at g2; cases g2), ⟨kC', hkC'⟩, ⟨kE', hkE'⟩, ?_⟩
            show vm₁.assignable _ _ = true
            rw [hal.assignable]
            exact hasg _ r3)
        (g := F0 m pc ls (.int k :: .int dp :: .ref z :: .int sp :: .ref y :: st)) rfl (by rw [hE.2.2.1, ← hE.2.2.2.1]; exact hls.1) (rest := st) rfl (by rw [hE.2.1]; exact d) (by omega) (by show 2 * 0 + _ + _ ≤ _; omega)
      have hl : z < H.size := (Array.getElem?_eq_some_iff.mp d1).1
      have hheap : ((T.setVm vm').setCell z (copied cs cd sp dp k)).heap = H.setIfInBounds z (copied cs cd sp dp k) := by rw [← hT]; rfl
      have oq : ∀ q : Nat, q ≠ z → (H.setIfInBounds z (copied cs cd sp dp k))[q]? = H[q]? := fun q hq => by simp [Array.getElem?_setIfInBounds, Ne.symm hq]
      have e2 : (H.setIfInBounds z (copied cs cd sp dp k))[z]? = some (copied cs cd sp dp k) := by simp [Array.getElem?_setIfInBounds, hl]
      obtain ⟨t, a1, b1⟩ := kk ls hls _ cb sb _ _ cells slots hf (zC_put hC hz e2 (c3.2.1.trans d2) c3.1 (by simp) oq) (zO_copy hO d1 e2 c3.2.2 c3.2.1 oq (fun q hq => by
        obtain ⟨w, -, hw2⟩ := List.mem_map.mp hq
        rw [← hw2]
        exact hA)) h1 h2 _ hheap X'
      exact ⟨t, step t a1, b1⟩
theorem zs_copyB (hE : zE x K cc own nm n F L en ret xt) {index : Nat} {a b : Option Nat} {sp dp k : Int32} (hl : Cond.methodLink own index arraycopyName ∈ lw_all) (hnat : Cond.native arraycopyName ∈ lw_all) (hstat : Cond.static arraycopyName ∈ lw_all) (hini : Cond.initialized "java/lang/System" ∈ lw_all) (hF : 1 ≤ F) (hL : (st.map fun v => v.category).sum + (nativeFrameWords "java/lang/System" "arraycopy" 5 + 11) ≤ L) (d : decode cc pc = .ok (.invokestatic index, 3)) (kk : zS x (pc + 3) lv st f) : zS x pc lv (.int k :: .int dp :: va_rf b :: .int sp :: va_rf a :: st) (zcopyB K a sp b dp k f) := by
  have hts := zEts hE
  have hV := zEV hE
  have hr := zEr hE
  have hK := zEK hE
  obtain ⟨p, l, e, R, s, m, args, below, meth, c, nL, G, enc, Q, X, mc, ms, qs⟩ := x
  dsimp only at hr hK
  subst hK
  intro ls hls h cb sb H locs cells slots hf hC hO h1 h2
  obtain ⟨y, n0, g0, hv, hf⟩ := hf
  have key : a = some y ∧ (h y = some (.inl (3, n0, .inl g0)) ∨ G.2.2.2.2 y = some (.inl (3, n0, .inl g0))) := by
    rcases hv with hv | hv
    · exact ⟨(zarI_spec hv).1, Or.inl (zarI_spec hv).2⟩
    · exact ⟨(zarI_spec hv).1, Or.inr (zarI_spec hv).2⟩
  obtain ⟨rfl, hy⟩ := key
  cases hw : zarI h b 3 with
  | none => rw [hw] at hf; exact hf.elim
  | some r2 =>
    obtain ⟨z, n1, g1⟩ := r2
    rw [hw] at hf
    obtain ⟨⟨f1, f2, f3, f4, f5, f6⟩, hf⟩ := hf
    obtain ⟨rfl, hz⟩ := zarI_spec hw
    obtain ⟨cs, s1, s0, s2, s3⟩ := zrd hV hC hy
    obtain ⟨hA, cd, d1, d2, d3⟩ := hC.1 z _ hz
    obtain ⟨⟨kA, comp, r1, r2⟩, -⟩ := zV_RA hV (t := 3) rfl (by decide)
    have c3 := zcopied (B' := .inl (va_cpy g0 g1 sp.toNatClampNeg dp.toNatClampNeg k.toNatClampNeg)) s3 d3 f4 f5 (fun j => by simp only [zval, va_cpy]; split <;> rfl)
    intro T hT X0
    obtain ⟨vm', X', step⟩ := X0.arraycopy hE.1 hE.2.2.2.2.1 (hts _ (zq hl)) (hts _ (zq hnat)) (hts _ (zq hstat)) (hts _ (zq hini)) (src := y) (dst := z) (cs := cs) (cd := cd) (srcPos := sp) (destPos := dp) (n := k) (by rw [hT]; exact s1) (by rw [hT]; exact d1)
      (znst s2) (by rw [d2]; exact fun _ h => nomatch h) s0 (by rw [d2]; exact fun h => nomatch h) (by rw [s3.1]; exact r1) (by rw [d3.1]; exact r1) r2 r2 rfl f1 f2 f3
      (by rw [znn f1, znn f3, s3.2.1]; dsimp only; omega) (by rw [znn f2, znn f3, d3.2.1]; dsimp only; omega)
      (fun vm₁ hal i hi => by
        rw [zcell_read s3 (show sp.toNatClampNeg + i < n0 by omega)]
        exact ⟨f6 i hi, trivial⟩)
      (g := F0 m pc ls (.int k :: .int dp :: .ref z :: .int sp :: .ref y :: st)) rfl (by rw [hE.2.2.1, ← hE.2.2.2.1]; exact hls.1) (rest := st) rfl (by rw [hE.2.1]; exact d) (by omega) (by show 2 * 0 + _ + _ ≤ _; omega)
    have hl : z < H.size := (Array.getElem?_eq_some_iff.mp d1).1
    have hheap : ((T.setVm vm').setCell z (copied cs cd sp dp k)).heap = H.setIfInBounds z (copied cs cd sp dp k) := by rw [← hT]; rfl
    have oq : ∀ q : Nat, q ≠ z → (H.setIfInBounds z (copied cs cd sp dp k))[q]? = H[q]? := fun q hq => by simp [Array.getElem?_setIfInBounds, Ne.symm hq]
    have e2 : (H.setIfInBounds z (copied cs cd sp dp k))[z]? = some (copied cs cd sp dp k) := by simp [Array.getElem?_setIfInBounds, hl]
    obtain ⟨t, a1, b1⟩ := kk ls hls _ cb sb _ _ cells slots hf (zC_put hC hz e2 (c3.2.1.trans d2) c3.1 (by simp) oq) (zO_copy hO d1 e2 c3.2.2 c3.2.1 oq (fun q hq => by
      obtain ⟨w, -, hw2⟩ := List.mem_map.mp hq
      rw [← hw2]
      exact hA)) h1 h2 _ hheap X'
    exact ⟨t, step t a1, b1⟩
/-- getClass of an array of Objects -/
theorem zs_getC (hE : zE x K cc own nm n F L en ret xt) {index : Nat} {a : Option Nat} (hl : Cond.methodLink own index ⟨"java/lang/Object", "getClass", "()Ljava/lang/Class;"⟩ ∈ lw_all) (hsel : Cond.selects "[Ljava/lang/Object;" ⟨"java/lang/Object", "getClass", "()Ljava/lang/Class;"⟩ ⟨"java/lang/Object", "getClass", "()Ljava/lang/Class;"⟩ ∈ lw_all) (hinst : Cond.instanceMethod ⟨"java/lang/Object", "getClass", "()Ljava/lang/Class;"⟩ ∈ lw_all) (hnat : Cond.native ⟨"java/lang/Object", "getClass", "()Ljava/lang/Class;"⟩ ∈ lw_all) (hF : 1 ≤ F) (hL : (st.map fun v => v.category).sum + 14 ≤ L) (d : decode cc pc = .ok (.invokevirtual index, 3)) (kk : zS x (pc + 3) lv (va_rf (some (K.1 20)) :: st) f) : zS x pc lv (va_rf a :: st) (zlen a 4 (fun _ => f)) := by
  have hts := zEts hE
  have hV := zEV hE
  have hr := zEr hE
  have hK := zEK hE
  obtain ⟨p, l, e, R, s, m, args, below, meth, c, nL, G, enc, Q, X, mc, ms, qs⟩ := x
  dsimp only at hr hK
  subst hK
  intro ls hls h cb sb H locs cells slots hf hC hO h1 h2
  unfold zlen at hf
  cases hv : zarr h a 4 with
  | none => rw [hv] at hf; exact hf.elim
  | some r =>
    obtain ⟨y, k, A⟩ := r
    rw [hv] at hf
    obtain ⟨rfl, hy⟩ := zarr_spec hv
    obtain ⟨cell, q1, q2, q3, q4⟩ := zrd hV hC (Or.inl hy)
    obtain ⟨-, kA, comp, g1, g2, g3, g4⟩ := zV_RA hV (t := 4) rfl (by decide)
    exact va_getC hE.1 hE.2.1 (by rw [hE.2.2.1, ← hE.2.2.2.1]; exact hls.1.symm) hE.2.2.2.2.1 (hts _ (zq hl)) (va_Dc.use hV.2.2.2.2.2.2.1.2.2.1) (hts _ (zq hsel)) (hts _ (zq hinst)) (hts _ (zq hnat)) hV.2.2.2.2.2.2.1.1 ⟨cell, q1, q3, by rw [q4.1]; exact g4⟩ (by omega) (by omega) d (kk ls hls h cb sb H locs cells slots hf hC hO h1 h2)
end ZR6
