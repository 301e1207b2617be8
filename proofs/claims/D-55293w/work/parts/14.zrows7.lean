section ZR7
variable {β : Type} {x : ZX β} {K : ZK} {cc : ByteArray} {own nm : String} {n F L : Nat} {en : β → Option Value} {ret : Option FieldType} {xt : List ExceptionTableEntry} {pc : Nat} {lv lv' : List (Nat × Value)} {st : List Value} {f g : ZP β}
theorem zExt.size {H H' : Heap} (h : zExt H H') : H.size ≤ H'.size := by
  rcases Nat.eq_zero_or_pos H.size with h0 | h0
  · omega
  · obtain ⟨c2, g1, -⟩ := h (H.size - 1) _ (Array.getElem?_eq_getElem (by omega))
    have := (Array.getElem?_eq_some_iff.mp g1).1
    omega
theorem zO_S {G : ZG} {s : State} {qs : List (Nat × Nat)} {h : ZH} {H : Heap} {locs : List Loc} (hO : zO G s qs H locs) (hC : zC G h H) : va_S (zA G) s.heap H locs := by
  refine ⟨hO.1.size, fun q h1 h2 => ?_, hO.2.1⟩
  have hq : q < G.2.2.1.size := Nat.not_le.mp h2
  rw [hC.2.2 q hq, hO.2.2.1.2 q hq]
def zNames : List String := ["java/lang/RuntimeException", "java/lang/Exception"]
/-- throw new E(), in class own: the classes' words by a premise -/
theorem zs_throw (hE : zE x K cc own nm n F L en ret xt) {ik ic ci : Nat} (hci : ci < 6) (hcls : Bundle.fit (zXN ci) = true) (hk : Cond.classLink own ik (zXN ci) ∈ lw_all) (hini : Cond.initialized (zXN ci) ∈ lw_all) (hat : ∀ (args : Array Value) (s : State), (∀ w ∈ zAll, w.before args s = true) → (∀ w ∈ zNest, va_Nw w s) → ∀ w ∈ vx_at0 own ic (zXN ci) zNames, w.before args s = true) (hgood : ∀ w ∈ vx_at0 own ic (zXN ci) zNames, vx_ot w = true) (hF : 6 ≤ F) (hL : (st.map fun v => v.category).sum + 81 ≤ L) (hxt : ∀ z ∈ xt, covers z (pc + 7) = false)
    (d0 : decode cc pc = .ok (.new ik, 3)) (d3 : decode cc (pc + 3) = .ok (.dup, 1)) (d4 : decode cc (pc + 4) = .ok (.invokespecial ic, 3)) (d7 : decode cc (pc + 7) = .ok (.athrow, 1)) : zS x pc lv st (zthrow ci) := by
  have hts := zEts hE
  have hV := zEV hE
  have hr := zEr hE
  have hX := zEx hE
  obtain ⟨p, l, e, R, s, m, args, below, meth, c, nL, G, enc, Q, X, mc, ms, qs⟩ := x
  dsimp only at hr hX
  intro ls hls h cb sb H locs cells slots hf hC hO h1 h2
  obtain ⟨f1, f2, f3⟩ := hf
  have hkp : ∀ a : Nat, a < G.2.2.1.size → ¬ zA G a → s.heap[a]? = G.2.2.1[a]? := fun a ha _ => hO.2.2.1.2 a ha
  refine vx_throw0 hE.1 hE.2.1 hE.2.2.2.2.2.2.2.2.1 hE.2.2.2.2.1 hcls (names := zNames) (by decide +kernel) (hts _ (zq hk)) (hts _ (zq hini)) (hat args s hts hV.2.2.1) ?_ (hV.2.2.2.2.2.2.2.1.1.kept hkp) (hV.2.2.2.2.2.2.2.1.2.kept hkp) (zO_S hO hC) (by rw [hE.2.2.1, ← hE.2.2.2.1]; exact hls.1) d0 d3 d4 d7 (by rw [hX.2.2.2.1]; exact hxt) (by simp [zNames]; omega) (by simp [zNames]; omega) (by omega) (by omega) hX.2.2.2.2 (fun t hal hz hq => ⟨ci, h, hci, rfl, f3, ?_, ?_⟩) hO.2.1 (by omega) (by omega)
  · intro w hw
    rcases List.mem_cons.mp hw with e1 | hw
    · rw [e1]
      unfold vx_ot
      simp [Cond.onTables]
    · rcases List.mem_cons.mp hw with e1 | hw
      · rw [e1]
        unfold vx_ot
        simp [Cond.onTables]
      · exact hgood w hw
  · refine ⟨fun a e0 ha => ?_, Nat.le_trans hC.2.1 hz, fun q hq' => by rw [hq q (Nat.lt_of_lt_of_le hq' hC.2.1)]; exact hC.2.2 q hq'⟩
    obtain ⟨g1, cell, g2, g3⟩ := hC.1 a e0 ha
    exact ⟨g1, cell, by rw [hq a (Array.getElem?_eq_some_iff.mp g2).1]; exact g2, g3⟩
  · exact hO.1.tr fun q ce hqc => ⟨ce, by rw [hq q (Array.getElem?_eq_some_iff.mp hqc).1]; exact hqc, rfl, rfl⟩
/-! calls -/
theorem zblind {G : ZG} {h : ZH} {av : List Value} : FrameBlind (va_Pc av (fun U => zV G U ∧ zC G h U.heap)) := by
  intro a U g mk q
  obtain ⟨q0, q1, q2⟩ := q
  exact ⟨q0, zV.moved (s := U) (U := U.calling g mk a) (State.WarmedH.refl U) q1, q2⟩
theorem zcallB {R : Room} {s : State} {args : Array Value} (hts : ∀ w ∈ zAll, w.before args s = true) {own : String} {index : Nat} {y : MethodName} {bytes : ByteArray} {k F' L' mc ms a : Nat} {rt : Option FieldType} (hcode : Cond.code y bytes k rt ∈ lw_all) (hini : Cond.initialized y.cls ∈ lw_all) (hl : Cond.methodLink own index y ∈ lw_all) (hd : y.cls ≠ "java/lang/invoke/MethodHandle" ∧ y.cls ≠ "java/lang/invoke/VarHandle" ∧ (parseMethodDescriptor y.desc).map (fun d => d.parameters.length) = some a) (hF : F' + 1 ≤ R.frames) (hL : 8 + (k + 11) + L' ≤ R.locals) :
    CallB R s args own index y bytes k rt (zws y bytes k rt) ({ frames := F', cells := mc, slots := ms, locals := L' }) mc ms a :=
  callB_of a hts (zmeth (zq hcode)) rfl rfl rfl (hts _ (zq hini)) (hts _ (zq hl)) hd ⟨hF, hL⟩
/-- a method's contract at any launch without stack traces -/
abbrev zMeth {α : Type} (K : ZK) (y : MethodName) (ws : List Cond) (F L : Nat) (av : List Value) (enc : α → Option Value) (f : ZP α) : Prop := ∀ (l : Launch) (G : ZG), l.stackTraces = false → G.2.2.2 = K → zMet l G y ws F L av enc f
section ZWC
variable {p : Program} {l : Launch} {e : Env} {R : Room} {s : State} {m : MethodId} {args : Array Value} {below : List Frame} {meth : Method} {c : Code} {H : Heap} {locs : List Loc} {cells slots : Nat} {G : ZG} {ls : Array Slot} {rest st0 : List Value} {α : Type} {enc : β → Option Value} {encA : α → Option Value} {Q : β → ZH → Prop} {X : Nat → ZH → Prop} {QA : α → ZH → Prop} {mc ms mc' ms' nL : Nat} {av : Array Value} {qs : List (Nat × Nat)}
theorem zw_call (hr : vx_Run p l e R s m args below meth c H locs cells slots mc' ms' (F0 m pc ls st0) rest (zQc G encA QA av) (zXC G X) (zA G)) (hO : zO G s qs H locs) (hlk : meth.locks = false) (hxt : ∀ z ∈ c.exceptionTable.toList, covers z pc = false) (hmc : cells + mc' ≤ mc) (hms : slots + ms' ≤ ms)
    (kk : ∀ (r : α) (h1 : ZH) (H1 : Heap) (locs1 : List Loc), QA r h1 → zC G h1 H1 → zO G s qs H1 locs1 → W p l e R s m args below meth c H1 locs1 (cells + mc') (slots + ms') (vx_MQ below (zQc G enc Q) (zXC G X) args s mc ms (zA G)) (F0 m (pc + 3) ls ((encA r).toList ++ rest))) :
    W p l e R s m args below meth c H locs cells slots (vx_MQ below (zQc G enc Q) (zXC G X) args s mc ms (zA G)) (F0 m pc ls st0) := by
  intro T hT X0
  rcases hr T hT X0 with ⟨v, st₀, t, T', L9, h0, X', hL, e1, e2, ⟨r, h1, hv, hq, hc, hx⟩, st⟩ | ⟨q, st₀, t, T', L9, E, ce, h0, X', hL, e1, e2, ⟨ci, h1, hci, hn, hq, hc, hx⟩, hce, hcv, hcl, st⟩
  · cases hv
    obtain ⟨t2, a1, b1⟩ := kk r h1 T'.heap (locs ++ L9) hq (by rw [e1]; exact hc) (zO_step hO (by rw [e1, ← h0]; exact hx) hL) T' rfl X'
    exact ⟨t2, st t2 a1, b1⟩
  · have hO1 := zO_step hO (H' := T'.heap) (by rw [e1, ← h0]; exact hx) hL
    obtain ⟨t2, a1, b1⟩ := vx_out (pc := pc) (E := E) (ce := ce) (rest := rest) (Qc := zQc G enc Q) (XC := zXC G X) (mc := mc) (ms := ms) hxt hlk (by rw [e1]; exact hce) hcv hcl (fun t3 ht3 _ => ⟨ci, h1, hci, hn, hq, by rw [ht3, e1]; exact hc, by rw [ht3]; exact hO1.1⟩) hO1.2.1 hmc hms T' rfl X'
    exact ⟨t2, st.trans a1, b1⟩
theorem zw_call5 (hr : vx_Run5 p l e R s m args below meth c H locs cells slots mc' ms' (F0 m pc ls st0) rest (zQc G encA QA av) (zXC G X) (zA G)) (hO : zO G s qs H locs) (hlk : meth.locks = false) (hxt : ∀ z ∈ c.exceptionTable.toList, covers z pc = false) (hmc : cells + mc' ≤ mc) (hms : slots + ms' ≤ ms)
    (kk : ∀ (r : α) (h1 : ZH) (H1 : Heap) (locs1 : List Loc), QA r h1 → zC G h1 H1 → zO G s qs H1 locs1 → W p l e R s m args below meth c H1 locs1 (cells + mc') (slots + ms') (vx_MQ below (zQc G enc Q) (zXC G X) args s mc ms (zA G)) (F0 m (pc + 5) ls ((encA r).toList ++ rest))) :
    W p l e R s m args below meth c H locs cells slots (vx_MQ below (zQc G enc Q) (zXC G X) args s mc ms (zA G)) (F0 m pc ls st0) := by
  intro T hT X0
  rcases hr T hT X0 with ⟨v, st₀, t, T', L9, h0, X', hL, e1, e2, ⟨r, h1, hv, hq, hc, hx⟩, st⟩ | ⟨q, st₀, t, T', L9, E, ce, h0, X', hL, e1, e2, ⟨ci, h1, hci, hn, hq, hc, hx⟩, hce, hcv, hcl, st⟩
  · cases hv
    obtain ⟨t2, a1, b1⟩ := kk r h1 T'.heap (locs ++ L9) hq (by rw [e1]; exact hc) (zO_step hO (by rw [e1, ← h0]; exact hx) hL) T' rfl X'
    exact ⟨t2, st t2 a1, b1⟩
  · have hO1 := zO_step hO (H' := T'.heap) (by rw [e1, ← h0]; exact hx) hL
    obtain ⟨t2, a1, b1⟩ := vx_out (pc := pc) (E := E) (ce := ce) (rest := rest) (Qc := zQc G enc Q) (XC := zXC G X) (mc := mc) (ms := ms) hxt hlk (by rw [e1]; exact hce) hcv hcl (fun t3 ht3 _ => ⟨ci, h1, hci, hn, hq, by rw [ht3, e1]; exact hc, by rw [ht3]; exact hO1.1⟩) hO1.2.1 hmc hms T' rfl X'
    exact ⟨t2, st.trans a1, b1⟩
end ZWC
theorem zs_callS (hE : zE x K cc own nm n F L en ret xt) {α : Type} {y : MethodName} {bytes : ByteArray} {k F' L' index : Nat} {rt : Option FieldType} {As stk : List Value} {encA : α → Option Value} {f : α → ZP β} {m : ZP α} (hm : zMeth K y (zws y bytes k rt) F' L' As encA m) (hcode : Cond.code y bytes k rt ∈ lw_all) (hini : Cond.initialized y.cls ∈ lw_all) (hl : Cond.methodLink own index y ∈ lw_all) (hsta : Cond.static y ∈ lw_all) (hd : y.cls ≠ "java/lang/invoke/MethodHandle" ∧ y.cls ≠ "java/lang/invoke/VarHandle" ∧ (parseMethodDescriptor y.desc).map (fun d => d.parameters.length) = some As.length) (hF : F' + 1 ≤ F) (hL : 8 + (k + 11) + L' ≤ L) (hst : stk = As.reverse ++ st) (hroom : (st.map fun v => v.category).sum ≤ 8) (hxt : ∀ z ∈ xt, covers z pc = false)
    (d : decode cc pc = .ok (.invokestatic index, 3)) (kk : ∀ r : α, zS x (pc + 3) lv ((encA r).toList ++ st) (f r)) : zS x pc lv stk (zcall m f) := by
  have hts := zEts hE
  have hV := zEV hE
  have hr := zEr hE
  have hX := zEx hE
  have hK := zEK hE
  obtain ⟨p, l, e, R, s, m, args, below, meth, c, nL, G, enc, Q, X, mc, ms, qs⟩ := x
  dsimp only at hr hX hK
  intro ls hls h cb sb H locs cells slots hf hC hO h1 h2
  subst hst
  obtain ⟨m1, m2, f1, f2, hf⟩ := hf
  refine zw_call (vx_runS ⟨hE.1, hE.2.1, hE.2.2.1, hE.2.2.2.2.1, hts⟩ (hm l G hE.2.2.2.2.2.2.2.2.1 hK h m1 m2 _ X hf) ⟨zcallB hts hcode hini hl hd (by omega) (by omega), hts _ (zq hsta)⟩ ⟨zblind, fun U hU hW => ⟨rfl, zV.moved hW hV, by rw [hU]; exact hC⟩⟩ rfl rfl (by rw [← hE.2.2.2.1]; exact hls.1) rfl (lv_room hroom) d ⟨by omega, by omega⟩) hO hX.2.2.2.2 (by rw [hX.2.2.2.1]; exact hxt) (by omega) (by omega) (fun r h1 H1 locs1 hq hc ho => kk r ls hls h1 (cb - m1) (sb - m2) H1 locs1 (cells + m1) (slots + m2) hq hc ho (by omega) (by omega))
theorem zs_callI (hE : zE x K cc own nm n F L en ret xt) {α : Type} {y : MethodName} {bytes : ByteArray} {k F' L' index : Nat} {As stk : List Value} {encA : α → Option Value} {f : α → ZP β} {a : Nat} {m : ZP α} (hm : zMeth K y (zws y bytes k none) F' L' (.ref a :: As) encA m) (hcode : Cond.code y bytes k none ∈ lw_all) (hini : Cond.initialized y.cls ∈ lw_all) (hl : Cond.methodLink own index y ∈ lw_all) (hin : Cond.instanceMethod y ∈ lw_all) (hnmI : y.name = "<init>") (hd : y.cls ≠ "java/lang/invoke/MethodHandle" ∧ y.cls ≠ "java/lang/invoke/VarHandle" ∧ (parseMethodDescriptor y.desc).map (fun d => d.parameters.length) = some As.length) (hF : F' + 1 ≤ F) (hL : 8 + (k + 11) + L' ≤ L) (hst : stk = As.reverse ++ .ref a :: st) (hroom : (st.map fun v => v.category).sum ≤ 8) (hxt : ∀ z ∈ xt, covers z pc = false)
    (d : decode cc pc = .ok (.invokespecial index, 3)) (kk : ∀ r : α, zS x (pc + 3) lv ((encA r).toList ++ st) (f r)) : zS x pc lv stk (zcall m f) := by
  have hts := zEts hE
  have hV := zEV hE
  have hr := zEr hE
  have hX := zEx hE
  have hK := zEK hE
  obtain ⟨p, l, e, R, s, m, args, below, meth, c, nL, G, enc, Q, X, mc, ms, qs⟩ := x
  dsimp only at hr hX hK
  intro ls hls h cb sb H locs cells slots hf hC hO h1 h2
  subst hst
  obtain ⟨m1, m2, f1, f2, hf⟩ := hf
  refine zw_call (vx_runI (As := As) ⟨hE.1, hE.2.1, hE.2.2.1, hE.2.2.2.2.1, hts⟩ (hm l G hE.2.2.2.2.2.2.2.2.1 hK h m1 m2 _ X hf) ⟨zcallB hts hcode hini hl hd (by omega) (by omega), hnmI, hts _ (zq hin)⟩ ⟨zblind, fun U hU hW => ⟨rfl, zV.moved hW hV, by rw [hU]; exact hC⟩⟩ rfl rfl (by rw [← hE.2.2.2.1]; exact hls.1) rfl (lv_room hroom) d ⟨by omega, by omega⟩) hO hX.2.2.2.2 (by rw [hX.2.2.2.1]; exact hxt) (by omega) (by omega) (fun r h1 H1 locs1 hq hc ho => kk r ls hls h1 (cb - m1) (sb - m2) H1 locs1 (cells + m1) (slots + m2) hq hc ho (by omega) (by omega))
theorem zs_callIN (hE : zE x K cc own nm n F L en ret xt) {α : Type} {y : MethodName} {bytes : ByteArray} {k F' L' index : Nat} {As stk : List Value} {encA : α → Option Value} {f : α → ZP β} {a : Nat} {m : ZP α} {host : String} (hm : zMeth K y (zws y bytes k none) F' L' (.ref a :: As) encA m) (hcode : Cond.code y bytes k none ∈ lw_all) (hini : Cond.initialized y.cls ∈ lw_all) (hl : Cond.methodLinkNest own index y host ∈ zNest) (hin : Cond.instanceMethod y ∈ lw_all) (hnmI : y.name = "<init>") (hd : y.cls ≠ "java/lang/invoke/MethodHandle" ∧ y.cls ≠ "java/lang/invoke/VarHandle" ∧ (parseMethodDescriptor y.desc).map (fun d => d.parameters.length) = some As.length) (hF : F' + 1 ≤ F) (hL : 8 + (k + 11) + L' ≤ L) (hst : stk = As.reverse ++ .ref a :: st) (hroom : (st.map fun v => v.category).sum ≤ 8) (hxt : ∀ z ∈ xt, covers z pc = false)
    (d : decode cc pc = .ok (.invokespecial index, 3)) (kk : ∀ r : α, zS x (pc + 3) lv ((encA r).toList ++ st) (f r)) : zS x pc lv stk (zcall m f) := by
  have hts := zEts hE
  have hV := zEV hE
  have hr := zEr hE
  have hX := zEx hE
  have hK := zEK hE
  obtain ⟨p, l, e, R, s, m, args, below, meth, c, nL, G, enc, Q, X, mc, ms, qs⟩ := x
  dsimp only at hr hX hK
  intro ls hls h cb sb H locs cells slots hf hC hO h1 h2
  subst hst
  obtain ⟨m1, m2, f1, f2, hf⟩ := hf
  have hw : ∀ w ∈ zws y bytes k none, ∀ (a' : Array Value) (U : State), s.WarmedH U.vm → w.before a' U = true := pay_in hts (zmeth (zq hcode))
  refine zw_call (vx_runIN (As := As) ⟨hE.1, hE.2.1, hE.2.2.1, hE.2.2.2.2.1, hts⟩ (hm l G hE.2.2.2.2.2.2.2.2.1 hK h m1 m2 _ X hf) ⟨⟨⟨rfl, rfl, by show F' + 1 ≤ _; omega, by show 8 + (k + 11) + L' ≤ _; omega, hw, List.mem_cons_self⟩, hts _ (zq hcode), hts _ (zq hini), ⟨hd.1, hd.2.1⟩, fun sig hs => by have h2 := hd.2.2; rw [hs] at h2; exact (Option.some.inj h2).symm, va_Nw.use rfl (hV.2.2.1 _ hl)⟩, hnmI, hts _ (zq hin)⟩ ⟨zblind, fun U hU hW => ⟨rfl, zV.moved hW hV, by rw [hU]; exact hC⟩⟩ rfl rfl (by rw [← hE.2.2.2.1]; exact hls.1) rfl (lv_room hroom) d ⟨by omega, by omega⟩) hO hX.2.2.2.2 (by rw [hX.2.2.2.1]; exact hxt) (by omega) (by omega) (fun r h1 H1 locs1 hq hc ho => kk r ls hls h1 (cb - m1) (sb - m2) H1 locs1 (cells + m1) (slots + m2) hq hc ho (by omega) (by omega))
theorem zs_callV (hE : zE x K cc own nm n F L en ret xt) {α : Type} {y : MethodName} {bytes : ByteArray} {k F' L' index : Nat} {rt : Option FieldType} {As stk : List Value} {encA : α → Option Value} {f : α → ZP β} {a : Option Nat} {ci N : Nat} {C : String} {T : u_T} {m : Nat → ZP α} (hc : zCL[ci]? = some (C, T, N)) (hm : ∀ y0 : Nat, zMeth K y (zws y bytes k rt) F' L' (.ref y0 :: As) encA (m y0)) (hcode : Cond.code y bytes k rt ∈ lw_all) (hini : Cond.initialized y.cls ∈ lw_all) (hl : Cond.methodLink own index y ∈ lw_all) (hin : Cond.instanceMethod y ∈ lw_all) (hsel : Cond.selects C y y ∈ zAll) (hd : y.cls ≠ "java/lang/invoke/MethodHandle" ∧ y.cls ≠ "java/lang/invoke/VarHandle" ∧ (parseMethodDescriptor y.desc).map (fun d => d.parameters.length) = some As.length) (hF : F' + 1 ≤ F) (hL : 8 + (k + 11) + L' ≤ L) (hst : stk = As.reverse ++ va_rf a :: st) (hroom : (st.map fun v => v.category).sum ≤ 8) (hxt : ∀ z ∈ xt, covers z pc = false)
    (d : decode cc pc = .ok (.invokevirtual index, 3)) (kk : ∀ r : α, zS x (pc + 3) lv ((encA r).toList ++ st) (f r)) : zS x pc lv stk (zcallV a ci m f) := by
  have hts := zEts hE
  have hV := zEV hE
  have hr := zEr hE
  have hX := zEx hE
  have hK := zEK hE
  obtain ⟨p, l, e, R, s, m, args, below, meth, c, nL, G, enc, Q, X, mc, ms, qs⟩ := x
  dsimp only at hr hX hK
  intro ls hls h cb sb H locs cells slots hf hC hO h1 h2
  subst hst
  unfold zcallV at hf
  cases hv : zobj h a ci with
  | none => rw [hv] at hf; exact hf.elim
  | some yf =>
  obtain ⟨y0, fs⟩ := yf
  rw [hv] at hf
  obtain ⟨rfl, hy⟩ := zobj_spec hv
  have hy : h y0 = some (.inr (ci, fs)) ∨ G.2.2.2.2 y0 = some (.inr (ci, fs)) := Or.inl hy
  obtain ⟨m1, m2, f1, f2, hf⟩ := hf
  have hrec : ∃ cell : Cell, H[y0]? = some cell ∧ cell.vm.isStatics = false ∧ s.vm.findClass C = some cell.cls := by
    obtain ⟨cell, q1, q2, q3, q4⟩ := zrd hV hC hy
    exact ⟨cell, q1, q3, by rw [q4.1]; exact (hV.1 ci _ hc).1.2.1⟩
  exact zw_call (vx_runV (As := As) ⟨hE.1, hE.2.1, hE.2.2.1, hE.2.2.2.2.1, hts⟩ (hm y0 l G hE.2.2.2.2.2.2.2.2.1 hK h m1 m2 _ X hf) ⟨zcallB hts hcode hini hl hd (by omega) (by omega), hts _ (zq hin), hts _ hsel⟩ ⟨zblind, hrec, fun U hU hW => ⟨rfl, zV.moved hW hV, by rw [hU]; exact hC⟩⟩ rfl rfl (by rw [← hE.2.2.2.1]; exact hls.1) rfl (lv_room hroom) d ⟨by omega, by omega⟩) hO hX.2.2.2.2 (by rw [hX.2.2.2.1]; exact hxt) (by omega) (by omega) (fun r h1 H1 locs1 hq hc ho => kk r ls hls h1 (cb - m1) (sb - m2) H1 locs1 (cells + m1) (slots + m2) hq hc ho (by omega) (by omega))
theorem zs_callVK (hE : zE x K cc own nm n F L en ret xt) {α : Type} {y : MethodName} {bytes : ByteArray} {k F' L' index : Nat} {rt : Option FieldType} {As stk : List Value} {encA : α → Option Value} {f : α → ZP β} {a : Option Nat} {ci N : Nat} {C : String} {T : u_T} {m : Nat → ZP α} (hc : zCL[ci]? = some (C, T, N)) (hm : ∀ y0 : Nat, zMeth K y (zws y bytes k rt) F' L' (.ref y0 :: As) encA (m y0)) (hcode : Cond.code y bytes k rt ∈ lw_all) (hini : Cond.initialized y.cls ∈ lw_all) (hl : Cond.methodLink own index y ∈ lw_all) (hin : Cond.instanceMethod y ∈ lw_all) (hsel : Cond.selects C y y ∈ zAll) (hd : y.cls ≠ "java/lang/invoke/MethodHandle" ∧ y.cls ≠ "java/lang/invoke/VarHandle" ∧ (parseMethodDescriptor y.desc).map (fun d => d.parameters.length) = some As.length) (hF : F' + 1 ≤ F) (hL : 8 + (k + 11) + L' ≤ L) (hst : stk = As.reverse ++ va_rf a :: st) (hroom : (st.map fun v => v.category).sum ≤ 8) (hxt : ∀ z ∈ xt, covers z pc = false)
    (d : decode cc pc = .ok (.invokevirtual index, 3)) (kk : ∀ r : α, zS x (pc + 3) lv ((encA r).toList ++ st) (f r)) : zS x pc lv stk (zcallVK K a ci m f) := by
  have hts := zEts hE
  have hV := zEV hE
  have hr := zEr hE
  have hX := zEx hE
  have hK := zEK hE
  obtain ⟨p, l, e, R, s, m, args, below, meth, c, nL, G, enc, Q, X, mc, ms, qs⟩ := x
  dsimp only at hr hX hK
  intro ls hls h cb sb H locs cells slots hf hC hO h1 h2
  subst hst
  obtain ⟨y0, fs, hv, hf⟩ := hf
  have key : a = some y0 ∧ (h y0 = some (.inr (ci, fs)) ∨ G.2.2.2.2 y0 = some (.inr (ci, fs))) := by
    rw [hK]
    rcases hv with hv | hv
    · exact ⟨(zobj_spec hv).1, Or.inl (zobj_spec hv).2⟩
    · exact ⟨(zobj_spec hv).1, Or.inr (zobj_spec hv).2⟩
  obtain ⟨rfl, hy⟩ := key
  obtain ⟨m1, m2, f1, f2, hf⟩ := hf
  have hrec : ∃ cell : Cell, H[y0]? = some cell ∧ cell.vm.isStatics = false ∧ s.vm.findClass C = some cell.cls := by
    obtain ⟨cell, q1, q2, q3, q4⟩ := zrd hV hC hy
    exact ⟨cell, q1, q3, by rw [q4.1]; exact (hV.1 ci _ hc).1.2.1⟩
  exact zw_call (vx_runV (As := As) ⟨hE.1, hE.2.1, hE.2.2.1, hE.2.2.2.2.1, hts⟩ (hm y0 l G hE.2.2.2.2.2.2.2.2.1 hK h m1 m2 _ X hf) ⟨zcallB hts hcode hini hl hd (by omega) (by omega), hts _ (zq hin), hts _ hsel⟩ ⟨zblind, hrec, fun U hU hW => ⟨rfl, zV.moved hW hV, by rw [hU]; exact hC⟩⟩ rfl rfl (by rw [← hE.2.2.2.1]; exact hls.1) rfl (lv_room hroom) d ⟨by omega, by omega⟩) hO hX.2.2.2.2 (by rw [hX.2.2.2.1]; exact hxt) (by omega) (by omega) (fun r h1 H1 locs1 hq hc ho => kk r ls hls h1 (cb - m1) (sb - m2) H1 locs1 (cells + m1) (slots + m2) hq hc ho (by omega) (by omega))
theorem zs_callU (hE : zE x K cc own nm n F L en ret xt) {α : Type} {y : MethodName} {bytes : ByteArray} {k F' L' index : Nat} {rt : Option FieldType} {As stk : List Value} {encA : α → Option Value} {f : α → ZP β} {a : Option Nat} {ci N : Nat} {xx : MethodName} {owner : String} {C : String} {T : u_T} {m : Nat → ZP α} (hc : zCL[ci]? = some (C, T, N)) (hm : ∀ y0 : Nat, zMeth K y (zws y bytes k rt) F' L' (.ref y0 :: As) encA (m y0)) (hcode : Cond.code y bytes k rt ∈ lw_all) (hini : Cond.initialized y.cls ∈ lw_all) (hl : Cond.methodLink own index xx ∈ lw_all) (hsm : Cond.sameMethod xx.cls owner xx.name xx.desc ∈ lw_all) (hdc : Cond.declares ⟨owner, xx.name, xx.desc⟩ ∈ zNest ∨ ∃ (b0 : ByteArray) (k0 : Nat) (r0 : Option FieldType), Cond.code ⟨owner, xx.name, xx.desc⟩ b0 k0 r0 ∈ lw_all ∧ Cond.instanceMethod ⟨owner, xx.name, xx.desc⟩ ∈ lw_all) (hown2 : owner ≠ "java/lang/invoke/MethodHandle" ∧ owner ≠ "java/lang/invoke/VarHandle") (hin : Cond.instanceMethod y ∈ lw_all) (hsel : Cond.selects C xx y ∈ lw_all) (hd : y.cls ≠ "java/lang/invoke/MethodHandle" ∧ y.cls ≠ "java/lang/invoke/VarHandle" ∧ (parseMethodDescriptor xx.desc).map (fun d => d.parameters.length) = some As.length) (hF : F' + 1 ≤ F) (hL : 8 + (k + 11) + L' ≤ L) (hst : stk = As.reverse ++ va_rf a :: st) (hroom : (st.map fun v => v.category).sum ≤ 8) (hxt : ∀ z ∈ xt, covers z pc = false)
    (d : decode cc pc = .ok (.invokevirtual index, 3)) (kk : ∀ r : α, zS x (pc + 3) lv ((encA r).toList ++ st) (f r)) : zS x pc lv stk (zcallV a ci m f) := by
  have hts := zEts hE
  have hV := zEV hE
  have hr := zEr hE
  have hX := zEx hE
  have hK := zEK hE
  obtain ⟨p, l, e, R, s, m, args, below, meth, c, nL, G, enc, Q, X, mc, ms, qs⟩ := x
  dsimp only at hr hX hK
  intro ls hls h cb sb H locs cells slots hf hC hO h1 h2
  subst hst
  unfold zcallV at hf
  cases hv : zobj h a ci with
  | none => rw [hv] at hf; exact hf.elim
  | some yf =>
  obtain ⟨y0, fs⟩ := yf
  rw [hv] at hf
  obtain ⟨rfl, hy⟩ := zobj_spec hv
  have hy : h y0 = some (.inr (ci, fs)) ∨ G.2.2.2.2 y0 = some (.inr (ci, fs)) := Or.inl hy
  obtain ⟨m1, m2, f1, f2, hf⟩ := hf
  have hrec : ∃ cell : Cell, H[y0]? = some cell ∧ cell.vm.isStatics = false ∧ s.vm.findClass C = some cell.cls := by
    obtain ⟨cell, q1, q2, q3, q4⟩ := zrd hV hC hy
    exact ⟨cell, q1, q3, by rw [q4.1]; exact (hV.1 ci _ hc).1.2.1⟩
  have hw : ∀ w ∈ zws y bytes k rt, ∀ (a' : Array Value) (U : State), s.WarmedH U.vm → w.before a' U = true := pay_in hts (zmeth (zq hcode))
  exact zw_call (vx_runU (As := As) (x := xx) (owner := owner) ⟨hE.1, hE.2.1, hE.2.2.1, hE.2.2.2.2.1, hts⟩ (hm y0 l G hE.2.2.2.2.2.2.2.2.1 hK h m1 m2 _ X hf) ⟨⟨rfl, rfl, by show F' + 1 ≤ _; omega, by show 8 + (k + 11) + L' ≤ _; omega, hw, List.mem_cons_self⟩, hts _ (zq hcode), hts _ (zq hini), hown2, fun sig hs => by have h2 := hd.2.2; rw [hs] at h2; exact (Option.some.inj h2).symm, hts _ (zq hl), hts _ (zq hsm), (by rcases hdc with hdc | ⟨b0, k0, r0, hd1, hd2⟩; exact va_Decl.abs (hV.2.2.1 _ hdc); exact va_Decl.of (hts _ (zq hd2)) (hts _ (zq hd1))), hts _ (zq hsel), hts _ (zq hin)⟩ ⟨zblind, hrec, fun U hU hW => ⟨rfl, zV.moved hW hV, by rw [hU]; exact hC⟩⟩ rfl rfl (by rw [← hE.2.2.2.1]; exact hls.1) rfl (lv_room hroom) d ⟨by omega, by omega⟩) hO hX.2.2.2.2 (by rw [hX.2.2.2.1]; exact hxt) (by omega) (by omega) (fun r h1 H1 locs1 hq hc ho => kk r ls hls h1 (cb - m1) (sb - m2) H1 locs1 (cells + m1) (slots + m2) hq hc ho (by omega) (by omega))
theorem zs_callF (hE : zE x K cc own nm n F L en ret xt) {α : Type} {y : MethodName} {bytes : ByteArray} {k F' L' index : Nat} {rt : Option FieldType} {As stk : List Value} {encA : α → Option Value} {f : α → ZP β} {a : Option Nat} {ci N count : Nat} {xx : MethodName} {C : String} {T : u_T} {m : Nat → ZP α} (hc : zCL[ci]? = some (C, T, N)) (hm : ∀ y0 : Nat, zMeth K y (zws y bytes k rt) F' L' (.ref y0 :: As) encA (m y0)) (hcode : Cond.code y bytes k rt ∈ lw_all) (hini : Cond.initialized y.cls ∈ lw_all) (hl : Cond.methodLink own index xx ∈ lw_all) (hfw : (C, xx, y) ∈ zFW) (hin : Cond.instanceMethod y ∈ lw_all) (hsel : Cond.selects C xx y ∈ lw_all) (hd : xx.cls ≠ "java/lang/invoke/MethodHandle" ∧ xx.cls ≠ "java/lang/invoke/VarHandle" ∧ (parseMethodDescriptor xx.desc).map (fun d => d.parameters.length) = some As.length) (hF : F' + 1 ≤ F) (hL : 8 + (k + 11) + L' ≤ L) (hst : stk = As.reverse ++ va_rf a :: st) (hroom : (st.map fun v => v.category).sum ≤ 8) (hxt : ∀ z ∈ xt, covers z pc = false)
    (d : decode cc pc = .ok (.invokeinterface index count, 5)) (kk : ∀ r : α, zS x (pc + 5) lv ((encA r).toList ++ st) (f r)) : zS x pc lv stk (zcallV a ci m f) := by
  have hts := zEts hE
  have hV := zEV hE
  have hr := zEr hE
  have hX := zEx hE
  have hK := zEK hE
  obtain ⟨p, l, e, R, s, m, args, below, meth, c, nL, G, enc, Q, X, mc, ms, qs⟩ := x
  dsimp only at hr hX hK
  intro ls hls h cb sb H locs cells slots hf hC hO h1 h2
  subst hst
  unfold zcallV at hf
  cases hv : zobj h a ci with
  | none => rw [hv] at hf; exact hf.elim
  | some yf =>
  obtain ⟨y0, fs⟩ := yf
  rw [hv] at hf
  obtain ⟨rfl, hy⟩ := zobj_spec hv
  have hy : h y0 = some (.inr (ci, fs)) ∨ G.2.2.2.2 y0 = some (.inr (ci, fs)) := Or.inl hy
  obtain ⟨m1, m2, f1, f2, hf⟩ := hf
  have hrec : ∃ cell : Cell, H[y0]? = some cell ∧ cell.vm.isStatics = false ∧ s.vm.findClass C = some cell.cls := by
    obtain ⟨cell, q1, q2, q3, q4⟩ := zrd hV hC hy
    exact ⟨cell, q1, q3, by rw [q4.1]; exact (hV.1 ci _ hc).1.2.1⟩
  have hw : ∀ w ∈ zws y bytes k rt, ∀ (a' : Array Value) (U : State), s.WarmedH U.vm → w.before a' U = true := pay_in hts (zmeth (zq hcode))
  obtain ⟨w1, w2, w3, w4, w5⟩ := hV.2.2.2.1 _ hfw
  exact zw_call5 (vx_runF (As := As) (x := xx) (hV.1 ci _ hc).1.2 ⟨hE.1, hE.2.1, hE.2.2.1, hE.2.2.2.2.1, hts⟩ (hm y0 l G hE.2.2.2.2.2.2.2.2.1 hK h m1 m2 _ X hf) ⟨⟨rfl, rfl, by show F' + 1 ≤ _; omega, by show 8 + (k + 11) + L' ≤ _; omega, hw, List.mem_cons_self⟩, hts _ (zq hl), va_any rfl w1, va_any rfl w2, hts _ (zq hsel), hts _ (zq hin), va_any rfl w3, va_any rfl w4, va_any rfl w5, hts _ (zq hini), hts _ (zq hcode), ⟨hd.1, hd.2.1⟩, fun sig hs => by have h2 := hd.2.2; rw [hs] at h2; exact (Option.some.inj h2).symm⟩ ⟨zblind, hrec, fun U hU hW => ⟨rfl, zV.moved hW hV, by rw [hU]; exact hC⟩⟩ rfl rfl (by rw [← hE.2.2.2.1]; exact hls.1) rfl (lv_room hroom) d ⟨by omega, by omega⟩) hO hX.2.2.2.2 (by rw [hX.2.2.2.1]; exact hxt) (by omega) (by omega) (fun r h1 H1 locs1 hq hc ho => kk r ls hls h1 (cb - m1) (sb - m2) H1 locs1 (cells + m1) (slots + m2) hq hc ho (by omega) (by omega))
theorem zs_callFK (hE : zE x K cc own nm n F L en ret xt) {α : Type} {y : MethodName} {bytes : ByteArray} {k F' L' index : Nat} {rt : Option FieldType} {As stk : List Value} {encA : α → Option Value} {f : α → ZP β} {a : Option Nat} {ci N count : Nat} {xx : MethodName} {C : String} {T : u_T} {m : Nat → ZP α} (hc : zCL[ci]? = some (C, T, N)) (hm : ∀ y0 : Nat, zMeth K y (zws y bytes k rt) F' L' (.ref y0 :: As) encA (m y0)) (hcode : Cond.code y bytes k rt ∈ lw_all) (hini : Cond.initialized y.cls ∈ lw_all) (hl : Cond.methodLink own index xx ∈ lw_all) (hfw : (C, xx, y) ∈ zFW) (hin : Cond.instanceMethod y ∈ lw_all) (hsel : Cond.selects C xx y ∈ lw_all) (hd : xx.cls ≠ "java/lang/invoke/MethodHandle" ∧ xx.cls ≠ "java/lang/invoke/VarHandle" ∧ (parseMethodDescriptor xx.desc).map (fun d => d.parameters.length) = some As.length) (hF : F' + 1 ≤ F) (hL : 8 + (k + 11) + L' ≤ L) (hst : stk = As.reverse ++ va_rf a :: st) (hroom : (st.map fun v => v.category).sum ≤ 8) (hxt : ∀ z ∈ xt, covers z pc = false)
    (d : decode cc pc = .ok (.invokeinterface index count, 5)) (kk : ∀ r : α, zS x (pc + 5) lv ((encA r).toList ++ st) (f r)) : zS x pc lv stk (zcallVK K a ci m f) := by
  have hts := zEts hE
  have hV := zEV hE
  have hr := zEr hE
  have hX := zEx hE
  have hK := zEK hE
  obtain ⟨p, l, e, R, s, m, args, below, meth, c, nL, G, enc, Q, X, mc, ms, qs⟩ := x
  dsimp only at hr hX hK
  intro ls hls h cb sb H locs cells slots hf hC hO h1 h2
  subst hst
  obtain ⟨y0, fs, hv, hf⟩ := hf
  have key : a = some y0 ∧ (h y0 = some (.inr (ci, fs)) ∨ G.2.2.2.2 y0 = some (.inr (ci, fs))) := by
    rw [hK]
    rcases hv with hv | hv
    · exact ⟨(zobj_spec hv).1, Or.inl (zobj_spec hv).2⟩
    · exact ⟨(zobj_spec hv).1, Or.inr (zobj_spec hv).2⟩
  obtain ⟨rfl, hy⟩ := key
  obtain ⟨m1, m2, f1, f2, hf⟩ := hf
  have hrec : ∃ cell : Cell, H[y0]? = some cell ∧ cell.vm.isStatics = false ∧ s.vm.findClass C = some cell.cls := by
    obtain ⟨cell, q1, q2, q3, q4⟩ := zrd hV hC hy
    exact ⟨cell, q1, q3, by rw [q4.1]; exact (hV.1 ci _ hc).1.2.1⟩
  have hw : ∀ w ∈ zws y bytes k rt, ∀ (a' : Array Value) (U : State), s.WarmedH U.vm → w.before a' U = true := pay_in hts (zmeth (zq hcode))
  obtain ⟨w1, w2, w3, w4, w5⟩ := hV.2.2.2.1 _ hfw
  exact zw_call5 (vx_runF (As := As) (x := xx) (hV.1 ci _ hc).1.2 ⟨hE.1, hE.2.1, hE.2.2.1, hE.2.2.2.2.1, hts⟩ (hm y0 l G hE.2.2.2.2.2.2.2.2.1 hK h m1 m2 _ X hf) ⟨⟨rfl, rfl, by show F' + 1 ≤ _; omega, by show 8 + (k + 11) + L' ≤ _; omega, hw, List.mem_cons_self⟩, hts _ (zq hl), va_any rfl w1, va_any rfl w2, hts _ (zq hsel), hts _ (zq hin), va_any rfl w3, va_any rfl w4, va_any rfl w5, hts _ (zq hini), hts _ (zq hcode), ⟨hd.1, hd.2.1⟩, fun sig hs => by have h2 := hd.2.2; rw [hs] at h2; exact (Option.some.inj h2).symm⟩ ⟨zblind, hrec, fun U hU hW => ⟨rfl, zV.moved hW hV, by rw [hU]; exact hC⟩⟩ rfl rfl (by rw [← hE.2.2.2.1]; exact hls.1) rfl (lv_room hroom) d ⟨by omega, by omega⟩) hO hX.2.2.2.2 (by rw [hX.2.2.2.1]; exact hxt) (by omega) (by omega) (fun r h1 H1 locs1 hq hc ho => kk r ls hls h1 (cb - m1) (sb - m2) H1 locs1 (cells + m1) (slots + m2) hq hc ho (by omega) (by omega))
theorem zs_callSU (hE : zE x K cc own nm n F L en ret xt) {α : Type} {y : MethodName} {bytes : ByteArray} {k F' L' index : Nat} {rt : Option FieldType} {As stk : List Value} {encA : α → Option Value} {f : α → ZP β} {a : Nat} {ci N : Nat} {C : String} {T : u_T} {m : Nat → ZP α} (hc : zCL[ci]? = some (C, T, N)) (hm : ∀ y0 : Nat, zMeth K y (zws y bytes k rt) F' L' (.ref y0 :: As) encA (m y0)) (hcode : Cond.code y bytes k rt ∈ lw_all) (hini : Cond.initialized y.cls ∈ lw_all) (hl : Cond.methodLink own index y ∈ lw_all) (hsm : Cond.sameMethod y.cls y.cls y.name y.desc ∈ lw_all) (hsup : Cond.superclass own y.cls ∈ lw_all) (hin : Cond.instanceMethod y ∈ lw_all) (hd : y.name ≠ "<init>" ∧ (parseMethodDescriptor y.desc).map (fun d => d.parameters.length) = some As.length) (hF : F' + 1 ≤ F) (hL : 8 + (k + 11) + L' ≤ L) (hst : stk = As.reverse ++ .ref a :: st) (hroom : (st.map fun v => v.category).sum ≤ 8) (hxt : ∀ z ∈ xt, covers z pc = false)
    (d : decode cc pc = .ok (.invokespecial index, 3)) (kk : ∀ r : α, zS x (pc + 3) lv ((encA r).toList ++ st) (f r)) : zS x pc lv stk (zcallV (some a) ci m f) := by
  have hts := zEts hE
  have hV := zEV hE
  have hr := zEr hE
  have hX := zEx hE
  have hK := zEK hE
  obtain ⟨p, l, e, R, s, m, args, below, meth, c, nL, G, enc, Q, X, mc, ms, qs⟩ := x
  dsimp only at hr hX hK
  intro ls hls h cb sb H locs cells slots hf hC hO h1 h2
  subst hst
  unfold zcallV at hf
  cases hv : zobj h (some a) ci with
  | none => rw [hv] at hf; exact hf.elim
  | some yf =>
  obtain ⟨y9, fs⟩ := yf
  rw [hv] at hf
  obtain ⟨e9, hy⟩ := zobj_spec hv
  cases e9
  have hy : h a = some (.inr (ci, fs)) ∨ G.2.2.2.2 a = some (.inr (ci, fs)) := Or.inl hy
  obtain ⟨m1, m2, f1, f2, hf⟩ := hf
  have hrec : ∃ cell : Cell, H[a]? = some cell ∧ cell.vm.isStatics = false ∧ s.vm.findClass C = some cell.cls := by
    obtain ⟨cell, q1, q2, q3, q4⟩ := zrd hV hC hy
    exact ⟨cell, q1, q3, by rw [q4.1]; exact (hV.1 ci _ hc).1.2.1⟩
  have hw : ∀ w ∈ zws y bytes k rt, ∀ (a' : Array Value) (U : State), s.WarmedH U.vm → w.before a' U = true := pay_in hts (zmeth (zq hcode))
  exact zw_call (vx_runSU (As := As) (hV.1 ci _ hc).1.2 ⟨hE.1, hE.2.1, hE.2.2.1, hE.2.2.2.2.1, hts⟩ (hm a l G hE.2.2.2.2.2.2.2.2.1 hK h m1 m2 _ X hf) ⟨⟨rfl, rfl, by show F' + 1 ≤ _; omega, by show 8 + (k + 11) + L' ≤ _; omega, hw, List.mem_cons_self⟩, hts _ (zq hl), hts _ (zq hsm), hts _ (zq hsup), hts _ (zq hin), hts _ (zq hini), hts _ (zq hcode), hd.1, fun sig hs => by have h2 := hd.2; rw [hs] at h2; exact (Option.some.inj h2).symm⟩ ⟨zblind, hrec, fun U hU hW => ⟨rfl, zV.moved hW hV, by rw [hU]; exact hC⟩⟩ rfl rfl (by rw [← hE.2.2.2.1]; exact hls.1) rfl (lv_room hroom) d ⟨by omega, by omega⟩) hO hX.2.2.2.2 (by rw [hX.2.2.2.1]; exact hxt) (by omega) (by omega) (fun r h1 H1 locs1 hq hc ho => kk r ls hls h1 (cb - m1) (sb - m2) H1 locs1 (cells + m1) (slots + m2) hq hc ho (by omega) (by omega))
end ZR7
