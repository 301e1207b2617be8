/-! ===== SIM-LAYER: exceptions that are caught ===== -/
section ZFU
variable {p : Program} {l : Launch} {e : Env} {R : Room} {s : State} {m : MethodId} {args : Array Value} {below : List Frame} {meth : Method} {c : Code} {H : Heap} {locs : List Loc} {cells slots : Nat}
theorem zx_callIFU {T : State} (X : Stand p l e R s m args below meth c T locs cells slots) (hexec : p.tables.exec = Jvm.exec) {own C J : String} {index count : Nat} {x y : MethodName} {bytes : ByteArray} {maxL : Nat} {ret : Option FieldType}
    (hown : s.vm.findClass own = some m.cls) (hlink : (Cond.methodLink own index x).before args s = true) (hdecl : (Cond.declares ⟨J, x.name, x.desc⟩).before args s = true) (hpubO : (Cond.publicMethod ⟨J, x.name, x.desc⟩).before args s = true) (hxo : x.cls ≠ J) (hJ : J ≠ "java/lang/invoke/MethodHandle" ∧ J ≠ "java/lang/invoke/VarHandle") (hface : (Cond.interfaceMethod x.cls J x.name x.desc).before args s = true)
    (hsel : (Cond.selects C ⟨J, x.name, x.desc⟩ y).before args s = true) (hinst : (Cond.instanceMethod y).before args s = true) (hpub : (Cond.publicMethod y).before args s = true) (hunh : (Cond.unhidden C x.name x.desc).before args s = true)
    (hcast : (Cond.castable C x.cls).before args s = true) (hcode : (Cond.code y bytes maxL ret).before args s = true) (hx : x.cls ≠ "java/lang/invoke/MethodHandle" ∧ x.cls ≠ "java/lang/invoke/VarHandle")
    {W9 : Nat} {Pre : Pt → Array Value → Prop} {Post : Pt → Array Value → Option Value → Pt → Prop} {PostX : Pt → Array Value → Addr → Pt → Prop} (hK : vx_Back l R p e below s args y 5 W9 Pre Post PostX)
    {b : Addr} {cellB : Cell} {kB : Class} (hcell : T.heap[b]? = some cellB) (hobj : cellB.vm.isStatics = false) (hcls : s.vm.findClass C = some cellB.cls) (hkB : s.vm.classes[cellB.cls]? = some kB)
    {g : JFrame} (hg : g.method = m) (hsize : g.locals.size = c.maxLocals) {argsL rest : List Value} (hlen : ∀ sig, parseMethodDescriptor x.desc = some sig → argsL.length = sig.parameters.length)
    (hstack : g.stack = argsL.reverse ++ .ref b :: rest) (hW : 2 * g.monitorRoom + (rest.map fun v => v.category).sum ≤ W9) (hdg : decode c.code g.pc = .ok (.invokeinterface index count, 5))
    (hpre : ∀ vm₁, s.WarmedH vm₁ → Pre ⟨T.setVm vm₁, locs, cells, slots⟩ (Value.ref b :: argsL).toArray) :
    (∃ (v : Option Value) (vm₁ : Vm) (B : Pt), s.WarmedH vm₁ ∧ Stand p l e R s m args below meth c B.U B.locs B.cells B.slots ∧ Post ⟨T.setVm vm₁, locs, cells, slots⟩ (Value.ref b :: argsL).toArray v B ∧
      ∀ target, Steps p.tables e below (B.U.setTop { g with pc := g.pc + 5, stack := v.toList ++ rest }) target → Steps p.tables e below (T.setTop g) target) ∨
    (∃ (q : Addr) (vm₁ : Vm) (B : Pt), s.WarmedH vm₁ ∧ Stand p l e R s m args below meth c B.U B.locs B.cells B.slots ∧ PostX ⟨T.setVm vm₁, locs, cells, slots⟩ (Value.ref b :: argsL).toArray q B ∧
      Steps p.tables e below (T.setTop g) ((B.U.setTop { g with stack := rest }).pushFrame (.throwing q))) := by
  obtain ⟨r0, r, hn, hrm, hstR, hsigR⟩ := Cond.declares_spec hdecl
  obtain ⟨cL, kL, r1, hcL, hkL, hiL, hfoundL, hn1⟩ := Cond.interfaceMethod_spec hface
  cases hn.symm.trans hn1
  obtain ⟨hnameR, hdescR⟩ := name_of_methodNamed hn hrm
  obtain ⟨mk, methM, hnamed, hmethM, -, habM⟩ := Cond.instanceMethod_spec hinst
  obtain ⟨c2, r2, m2, q1, q2, q3, q4, -⟩ := Cond.selects_spec hsel
  cases hcls.symm.trans q1
  cases (State.methodFound?_of_named hn hJ).symm.trans q2
  cases hnamed.symm.trans q3
  have hselP : selectMethod e.platform s.vm cellB.cls r0 = .method mk := by rw [Launch.admits_selectMethod X.admits]; exact q4
  have hpubM : hasFlag methM.accessFlags Acc.public_ = true := Cond.publicMethod_spec hnamed hmethM hpub
  have hway : ((cellB.cls :: s.vm.superclasses cellB.cls).any fun k => (declaredIn s.vm r.name r.desc k).any fun (_, z) => z.isPrivate || z.isStatic) = false := by
    rw [hnameR, hdescR]; exact Cond.unhidden_spec hcls hunh
  obtain ⟨c3, t3, w1, w2, w3⟩ := Cond.castable_spec hcast
  cases hcls.symm.trans w1
  cases hcL.symm.trans w2
  obtain ⟨vm₁, X₁, hstep₁⟩ := X.invokeinterfaceUp hexec hown hlink hface hdecl hpubO hxo hx hcL (a := b) (cell := cellB) (kcell := kB) hcell
    (fun z h => by rw [h] at hobj; cases hobj) hkB w3 hn hrm hselP hmethM hway hpubM habM (g := g) hg (argsL := argsL) (rest := rest) (hlen _ hsigR) hstack hdg
  rcases hK m meth c ⟨T.setVm vm₁, locs, cells, slots⟩ { g with stack := rest } (.invokeinterface index count) mk (Value.ref b :: argsL).toArray X₁ hg hsize hdg hW (X₁.named hnamed) (hpre vm₁ X₁.warmed) with ⟨v, B, X', hpost, hsteps⟩ | ⟨q, B, X', hpost, hsteps⟩
  · exact Or.inl ⟨v, vm₁, B, X₁.warmed, X', hpost, fun target h => hstep₁ _ fun acts => by rw [doInvoke_state]; exact hsteps.trans h⟩
  · exact Or.inr ⟨q, vm₁, B, X₁.warmed, X', hpost, hstep₁ _ fun acts => by rw [doInvoke_state]; exact hsteps⟩
abbrev zCIU (R : Room) (s : State) (args : Array Value) (own C J : String) (index : Nat) (x y : MethodName) (bytes : ByteArray) (maxL : Nat) (ret : Option FieldType) (ws : List Cond) (rm : Room) (mc ms n : Nat) : Prop :=
  (rm.cells = mc ∧ rm.slots = ms ∧ rm.frames + 1 ≤ R.frames ∧ 8 + (maxL + 11) + rm.locals ≤ R.locals ∧ (∀ w ∈ ws, ∀ (a' : Array Value) (U : State), s.WarmedH U.vm → w.before a' U = true) ∧ Cond.code y bytes maxL ret ∈ ws) ∧
  (Cond.methodLink own index x).before args s = true ∧ (Cond.declares ⟨J, x.name, x.desc⟩).before args s = true ∧ (Cond.publicMethod ⟨J, x.name, x.desc⟩).before args s = true ∧ (x.cls ≠ J) ∧ (J ≠ "java/lang/invoke/MethodHandle" ∧ J ≠ "java/lang/invoke/VarHandle") ∧ (Cond.interfaceMethod x.cls J x.name x.desc).before args s = true ∧
  (Cond.selects C ⟨J, x.name, x.desc⟩ y).before args s = true ∧ (Cond.instanceMethod y).before args s = true ∧ (Cond.publicMethod y).before args s = true ∧ (Cond.unhidden C x.name x.desc).before args s = true ∧ (Cond.castable C x.cls).before args s = true ∧ (Cond.initialized y.cls).before args s = true ∧ (Cond.code y bytes maxL ret).before args s = true ∧ (x.cls ≠ "java/lang/invoke/MethodHandle" ∧ x.cls ≠ "java/lang/invoke/VarHandle") ∧ (∀ sig, parseMethodDescriptor x.desc = some sig → n = sig.parameters.length)
theorem zx_runFU {x y : MethodName} {bytes cc : ByteArray} {maxL nL mc ms n index count : Nat} {ret : Option FieldType} {ws : List Cond} {rm : Room} {Pc : Array Value → State → Prop} {Qc : Array Value → State → Outcome → State → Prop} {XC : String → State → State → Prop} {free : Addr → Prop} {Ts : List Cond} {own C J : String} {cC : ClassId} {b : Addr} {As rest : List Value} {g : JFrame}
    (hat : ClassAt s C cC) (S : CallFix p m c cc nL s args Ts own) (hM : vx_Met l y ws rm Pc Qc XC mc ms free) (cw : zCIU R s args own C J index x y bytes maxL ret ws rm mc ms n) (hp : PreV s H C b Pc As)
    (hg : g.method = m) (hn : As.length = n) (hsize : g.locals.size = nL) (hstack : g.stack = As.reverse ++ .ref b :: rest) (hW : 2 * g.monitorRoom + (rest.map fun v => v.category).sum ≤ 8) (hdg : decode cc g.pc = .ok (.invokeinterface index count, 5)) (hf : cells + mc ≤ R.cells ∧ slots + ms ≤ R.slots) :
    vx_Run5 p l e R s m args below meth c H locs cells slots mc ms g rest (Qc (Value.ref b :: As).toArray) XC free := by
  obtain ⟨⟨hrc, hrs, hfr, hlo, hws, hcw⟩, cl, cd, cp, cx, cJ, cf, cs, ci, cpu, cu, cca, hini, cco, cn, clen⟩ := cw
  have hK : vx_Back l R p e below s args y 5 8 (PreOf R mc ms Pc) (PostOf Qc mc ms free) (vx_Post XC mc ms free) := vx_back (bytes := bytes) (maxL := maxL) (ret := ret) hM hp.1 hrc hrs hfr hlo hws hcw (fun a' U hW => word_at hW (Or.inl (by first | rfl | simp [Cond.onTables, Cond.keeps, Cond.steady])) hini)
  obtain ⟨hx, hb, hml, ho, -⟩ := S
  obtain ⟨-, ⟨cellB, hcB, hoB, hclB⟩, hPc⟩ := hp
  obtain ⟨hfc, kB, hkB, -⟩ := hat
  cases hfc.symm.trans hclB
  intro T hT X
  rcases zx_callIFU X hx (C := C) (J := J) (bytes := bytes) (maxL := maxL) (ret := ret) ho cl cd cp cx cJ cf cs ci cpu cu cca cco cn hK (by rw [hT]; exact hcB) hoB hclB hkB hg (hsize.trans hml.symm) (argsL := As) (rest := rest) (fun sig h => hn.trans (clen sig h)) hstack hW (by rw [hb]; exact hdg)
    (fun vm₁ hW₁ => ⟨hf.1, hf.2, hPc (T.setVm vm₁) hT hW₁⟩) with ⟨v, vm₁, ⟨U', l2, c2, s2⟩, hW₁, X', ⟨g', mk, t, L, e1, e2, hq, h1, hL, h2, h3⟩, st⟩ | ⟨q, vm₁, ⟨U', l2, c2, s2⟩, hW₁, X', ⟨g', mk, t, L, E, ce, e1, e2, hq, hce, hcv, hcl, h1, hL, h2, h3⟩, st⟩
  · dsimp only [Pt.U, Pt.locs, Pt.cells, Pt.slots] at X' e1 e2 h1 h2 h3 st
    subst h1; subst h2; subst h3
    exact Or.inl ⟨v, (T.setVm vm₁).calling g' mk (Value.ref b :: As).toArray, t, U', L, hT, X', hL, e1, e2, hq, st⟩
  · dsimp only [Pt.U, Pt.locs, Pt.cells, Pt.slots] at X' e1 e2 h1 h2 h3 st hcl
    subst h1; subst h2; subst h3
    exact Or.inr ⟨q, (T.setVm vm₁).calling g' mk (Value.ref b :: As).toArray, t, U', L, E, ce, hT, X', hL, e1, e2, hq, hce, hcv, vx_cls hW₁ hcl, st⟩
end ZFU

section ZR9
variable {β : Type} {x : ZX β} {K : ZK} {cc : ByteArray} {own nm : String} {n F L : Nat} {en : β → Option Value} {ret : Option FieldType} {xt : List ExceptionTableEntry} {pc : Nat} {lv lv' : List (Nat × Value)} {st : List Value} {f g : ZP β}
/-- from a handler on: the exception at q, of class number ci -/
def zxq {β : Type} (x : ZX β) (q ci : Nat) : ZX β := (x.1, x.2.1, x.2.2.1, x.2.2.2.1, x.2.2.2.2.1, x.2.2.2.2.2.1, x.2.2.2.2.2.2.1, x.2.2.2.2.2.2.2.1, x.2.2.2.2.2.2.2.2.1, x.2.2.2.2.2.2.2.2.2.1, x.2.2.2.2.2.2.2.2.2.2.1, x.2.2.2.2.2.2.2.2.2.2.2.1, x.2.2.2.2.2.2.2.2.2.2.2.2.1, x.2.2.2.2.2.2.2.2.2.2.2.2.2.1, x.2.2.2.2.2.2.2.2.2.2.2.2.2.2.1, x.2.2.2.2.2.2.2.2.2.2.2.2.2.2.2.1, x.2.2.2.2.2.2.2.2.2.2.2.2.2.2.2.2.1, (q, ci) :: x.2.2.2.2.2.2.2.2.2.2.2.2.2.2.2.2.2)
def zqin {β : Type} (x : ZX β) (q ci : Nat) : Prop := (q, ci) ∈ x.2.2.2.2.2.2.2.2.2.2.2.2.2.2.2.2.2
theorem zE_q (q ci : Nat) (hE : zE x K cc own nm n F L en ret xt) : zE (zxq x q ci) K cc own nm n F L en ret xt := by
  obtain ⟨p, l, e, R, s, m, args, below, meth, c, nL, G, enc, Q, X, mc, ms, qs⟩ := x
  show zE (p, l, e, R, s, m, args, below, meth, c, nL, G, enc, Q, X, mc, ms, (q, ci) :: qs) K cc own nm n F L en ret xt
  exact ⟨hE.1, hE.2.1, hE.2.2.1, hE.2.2.2.1, hE.2.2.2.2.1, hE.2.2.2.2.2.1, hE.2.2.2.2.2.2.1, hE.2.2.2.2.2.2.2.1, hE.2.2.2.2.2.2.2.2.1, hE.2.2.2.2.2.2.2.2.2.1, hE.2.2.2.2.2.2.2.2.2.2.1, hE.2.2.2.2.2.2.2.2.2.2.2.1, hE.2.2.2.2.2.2.2.2.2.2.2.2.1, hE.2.2.2.2.2.2.2.2.2.2.2.2.2.1, hE.2.2.2.2.2.2.2.2.2.2.2.2.2.2.1, hE.2.2.2.2.2.2.2.2.2.2.2.2.2.2.2.1, hE.2.2.2.2.2.2.2.2.2.2.2.2.2.2.2.2.1, hE.2.2.2.2.2.2.2.2.2.2.2.2.2.2.2.2.2⟩
theorem zqin_q (q ci : Nat) : zqin (zxq x q ci) q ci := List.mem_cons_self
/-- a handler for the exceptions of class number ci goes on as k -/
def zHnd {β : Type} (x : ZX β) (own : String) (xt : List ExceptionTableEntry) (pc : Nat) (lv : List (Nat × Value)) (ci : Nat) (k : ZP β) : Prop :=
  ∃ (pre suf : List ExceptionTableEntry) (z : ExceptionTableEntry), xt = pre ++ z :: suf ∧ (∀ w ∈ pre, covers w pc = false ∨ (w.catchType ≠ 0 ∧ ∃ nm : String, Cond.classLink own w.catchType nm ∈ lw_all ∧ (zXN ci, nm) ∈ zNC)) ∧ covers z pc = true ∧ z.catchType ≠ 0 ∧ Cond.classLink own z.catchType (zXN ci) ∈ lw_all ∧ Cond.castable (zXN ci) (zXN ci) ∈ zNest ∧ ∀ q : Nat, zS (zxq x q ci) z.handlerPc lv [va_rf (some q)] k
theorem zhnd {ci : Nat} {k : ZP β} (pre suf : List ExceptionTableEntry) (z : ExceptionTableEntry) (h1 : xt = pre ++ z :: suf) (h2 : ∀ w ∈ pre, covers w pc = false ∨ (w.catchType ≠ 0 ∧ ∃ nm : String, Cond.classLink own w.catchType nm ∈ lw_all ∧ (zXN ci, nm) ∈ zNC)) (h3 : covers z pc = true) (h4 : z.catchType ≠ 0) (h5 : Cond.classLink own z.catchType (zXN ci) ∈ lw_all) (h6 : Cond.castable (zXN ci) (zXN ci) ∈ zNest) (h7 : ∀ q : Nat, zS (zxq x q ci) z.handlerPc lv [va_rf (some q)] k) : zHnd x own xt pc lv ci k := ⟨pre, suf, z, h1, h2, h3, h4, h5, h6, h7⟩
theorem zhl_nil {α : Type} {P : α → Prop} : ∀ z ∈ ([] : List α), P z := fun _ h => nomatch h
theorem zhl_cons {α : Type} {P : α → Prop} {a : α} {l : List α} (h : P a) (t : ∀ z ∈ l, P z) : ∀ z ∈ a :: l, P z := by
  intro z hz
  rcases List.mem_cons.mp hz with rfl | hz
  · exact h
  · exact t z hz
section ZCG
variable {p : Program} {l : Launch} {e : Env} {R : Room} {s : State} {m : MethodId} {args : Array Value} {below : List Frame} {meth : Method} {c : Code} {H : Heap} {locs : List Loc} {cells slots : Nat} {G : ZG} {ls : Array Slot} {rest st0 : List Value} {α : Type} {enc : β → Option Value} {encA : α → Option Value} {Q : β → ZH → Prop} {X : Nat → ZH → Prop} {XA : Nat → ZH → Prop} {QA : α → ZH → Prop} {mc ms mc' ms' nL : Nat} {av : Array Value} {qs : List (Nat × Nat)}
theorem zcatch_go (hE : zE (p, l, e, R, s, m, args, below, meth, c, nL, G, enc, Q, X, mc, ms, qs) K cc own nm n F L en ret xt) {hs : List (Nat × ZP β)} (hh : ∀ z ∈ hs, zHnd (p, l, e, R, s, m, args, below, meth, c, nL, G, enc, Q, X, mc, ms, qs) own xt pc lv z.1 z.2) {E q cb sb : Nat} {h1 : ZH} {H1 : Heap} {locs1 : List Loc} {ce : Cell} (_hE6 : E < 6) (hx : ∃ k, hs.lookup E = some k ∧ k h1 cb sb Q X) (hC : zC G h1 H1) (hO : zO G s qs H1 locs1) (hcell : H1[q]? = some ce) (hcv : ce.vm = .none) (hcl : s.vm.findClass (zXN E) = some ce.cls) (ls : Array Slot) (hls : lv_has ls nL lv) (h1' : cells + cb ≤ mc) (h2' : slots + sb ≤ ms) :
    vx_W p l e R s m args below meth c H1 locs1 cells slots (vx_MQ below (zQc G enc Q) (zXC G X) args s mc ms (zA G)) (F0 m pc ls rest) q := by
  have hts := zEts hE
  have hV := zEV hE
  have hX := zEx hE
  dsimp only at hX hV hts
  obtain ⟨k, hk, hf⟩ := hx
  have hmem : (E, k) ∈ hs := by
    clear hf hh
    induction hs with
    | nil => cases hk
    | cons a t ih =>
      obtain ⟨a1, a2⟩ := a
      rw [List.lookup_cons] at hk
      by_cases h : E == a1
      · rw [h] at hk
        obtain rfl := Option.some.inj hk
        rw [beq_iff_eq.mp h]
        exact List.mem_cons_self
      · rw [Bool.eq_false_iff.mpr h] at hk
        exact List.mem_cons_of_mem _ (ih hk)
  obtain ⟨pre, suf, z, e1, e2, e3, e4, e5, e6, e7⟩ := hh (E, k) hmem
  refine vx_catch hE.2.2.2.2.1 (name := zXN E) pre z suf (by rw [hX.2.2.2.1]; exact e1) (fun w hw => ?_) e3 e4 (hts _ (zq e5)) (va_Nw.use rfl (hV.2.2.1 _ e6)) hcell hcv hcl ?_
  · rcases e2 w hw with g | ⟨g0, nm', g1, g2⟩
    · exact Or.inl g
    · exact Or.inr ⟨g0, nm', hts _ (zq g1), hV.2.2.2.2.2.2.1.2.2.2.1 _ g2⟩
  · refine e7 q ls hls h1 cb sb H1 locs1 cells slots hf hC ⟨hO.1, hO.2.1, hO.2.2.1, fun y hy => ?_⟩ h1' h2'
    rcases List.mem_cons.mp hy with rfl | hy
    · exact ⟨ce, hcell, hcv, hcl⟩
    · exact hO.2.2.2 y hy
theorem zw_callT (hr : vx_Run p l e R s m args below meth c H locs cells slots mc' ms' (F0 m pc ls st0) rest (zQc G encA QA av) (zXC G XA) (zA G)) (hO : zO G s qs H locs)
    (kk : ∀ (r : α) (h1 : ZH) (H1 : Heap) (locs1 : List Loc), QA r h1 → zC G h1 H1 → zO G s qs H1 locs1 → W p l e R s m args below meth c H1 locs1 (cells + mc') (slots + ms') (vx_MQ below (zQc G enc Q) (zXC G X) args s mc ms (zA G)) (F0 m (pc + 3) ls ((encA r).toList ++ rest)))
    (kx : ∀ (E : Nat) (h1 : ZH) (H1 : Heap) (locs1 : List Loc) (q : Nat) (ce : Cell), E < 6 → XA E h1 → zC G h1 H1 → zO G s qs H1 locs1 → H1[q]? = some ce → ce.vm = .none → s.vm.findClass (zXN E) = some ce.cls → vx_W p l e R s m args below meth c H1 locs1 (cells + mc') (slots + ms') (vx_MQ below (zQc G enc Q) (zXC G X) args s mc ms (zA G)) (F0 m pc ls rest) q) :
    W p l e R s m args below meth c H locs cells slots (vx_MQ below (zQc G enc Q) (zXC G X) args s mc ms (zA G)) (F0 m pc ls st0) := by
  intro T hT X0
  rcases hr T hT X0 with ⟨v, st₀, t, T', L9, h0, X', hL, e1, e2, ⟨r, h1, hv, hq, hc, hx⟩, st⟩ | ⟨q, st₀, t, T', L9, E, ce, h0, X', hL, e1, e2, ⟨ci, h1, hci, hn, hq, hc, hx⟩, hce, hcv, hcl, st⟩
  · cases hv
    obtain ⟨t2, a1, b1⟩ := kk r h1 T'.heap (locs ++ L9) hq (by rw [e1]; exact hc) (zO_step hO (by rw [e1, ← h0]; exact hx) hL) T' rfl X'
    exact ⟨t2, st t2 a1, b1⟩
  · subst hn
    obtain ⟨t2, a1, b1⟩ := kx ci h1 T'.heap (locs ++ L9) q ce hci hq (by rw [e1]; exact hc) (zO_step hO (by rw [e1, ← h0]; exact hx) hL) (by rw [e1]; exact hce) hcv hcl T' rfl X'
    exact ⟨t2, st.trans a1, b1⟩
theorem zw_callT5 (hr : vx_Run5 p l e R s m args below meth c H locs cells slots mc' ms' (F0 m pc ls st0) rest (zQc G encA QA av) (zXC G XA) (zA G)) (hO : zO G s qs H locs)
    (kk : ∀ (r : α) (h1 : ZH) (H1 : Heap) (locs1 : List Loc), QA r h1 → zC G h1 H1 → zO G s qs H1 locs1 → W p l e R s m args below meth c H1 locs1 (cells + mc') (slots + ms') (vx_MQ below (zQc G enc Q) (zXC G X) args s mc ms (zA G)) (F0 m (pc + 5) ls ((encA r).toList ++ rest)))
    (kx : ∀ (E : Nat) (h1 : ZH) (H1 : Heap) (locs1 : List Loc) (q : Nat) (ce : Cell), E < 6 → XA E h1 → zC G h1 H1 → zO G s qs H1 locs1 → H1[q]? = some ce → ce.vm = .none → s.vm.findClass (zXN E) = some ce.cls → vx_W p l e R s m args below meth c H1 locs1 (cells + mc') (slots + ms') (vx_MQ below (zQc G enc Q) (zXC G X) args s mc ms (zA G)) (F0 m pc ls rest) q) :
    W p l e R s m args below meth c H locs cells slots (vx_MQ below (zQc G enc Q) (zXC G X) args s mc ms (zA G)) (F0 m pc ls st0) := by
  intro T hT X0
  rcases hr T hT X0 with ⟨v, st₀, t, T', L9, h0, X', hL, e1, e2, ⟨r, h1, hv, hq, hc, hx⟩, st⟩ | ⟨q, st₀, t, T', L9, E, ce, h0, X', hL, e1, e2, ⟨ci, h1, hci, hn, hq, hc, hx⟩, hce, hcv, hcl, st⟩
  · cases hv
    obtain ⟨t2, a1, b1⟩ := kk r h1 T'.heap (locs ++ L9) hq (by rw [e1]; exact hc) (zO_step hO (by rw [e1, ← h0]; exact hx) hL) T' rfl X'
    exact ⟨t2, st t2 a1, b1⟩
  · subst hn
    obtain ⟨t2, a1, b1⟩ := kx ci h1 T'.heap (locs ++ L9) q ce hci hq (by rw [e1]; exact hc) (zO_step hO (by rw [e1, ← h0]; exact hx) hL) (by rw [e1]; exact hce) hcv hcl T' rfl X'
    exact ⟨t2, st.trans a1, b1⟩
/-- the handler of a finally -/
theorem zx_catchAny {E : String} {ce : Cell} {q : Addr} (pre : List ExceptionTableEntry) (z : ExceptionTableEntry) (suf : List ExceptionTableEntry) {Q0 : State → Prop} (hsplit : c.exceptionTable.toList = pre ++ z :: suf)
    (hpass : ∀ w ∈ pre, covers w pc = false) (hx : covers z pc = true) (h0 : z.catchType = 0) (hcell : H[q]? = some ce) (hv : ce.vm = .none) (hcl : s.vm.findClass E = some ce.cls)
    (kk : W p l e R s m args below meth c H locs cells slots Q0 (F0 m z.handlerPc ls [.ref q])) : vx_W p l e R s m args below meth c H locs cells slots Q0 (F0 m pc ls rest) q := by
  intro T hT X
  obtain ⟨vm', X', st⟩ := X.thenCaughtThrough q (g := F0 m pc ls rest) rfl (Steps.refl _) (by rw [hT]; exact hcell) (by rw [hv]; rfl) (by obtain ⟨k9, h9, -⟩ := Vm.findClass_spec hcl; exact ⟨k9, h9⟩) pre z suf hsplit (fun w hw => Or.inl (hpass w hw)) hx (Or.inl h0)
  obtain ⟨t, a1, b1⟩ := kk (T.setVm vm') hT X'
  exact ⟨t, st.trans a1, b1⟩
end ZCG
/-- an exception that was caught is thrown on: into a finally, out of the method -/
theorem zs_athrowAny (hE : zE x K cc own nm n F L en ret xt) {q ci : Nat} (hq : zqin x q ci) (pre : List ExceptionTableEntry) (z : ExceptionTableEntry) (suf : List ExceptionTableEntry) (hsplit : xt = pre ++ z :: suf) (hpass : ∀ w ∈ pre, covers w pc = false) (hx : covers z pc = true) (h0 : z.catchType = 0) (d : decode cc pc = .ok (.athrow, 1)) (k : zS x z.handlerPc lv [va_rf (some q)] f) : zS x pc lv (va_rf (some q) :: st) f := by
  have hX := zEx hE
  obtain ⟨p, l, e, R, s, m, args, below, meth, c, nL, G, enc, Q, X, mc, ms, qs⟩ := x
  dsimp only at hX
  intro ls hls h cb sb H locs cells slots hf hC hO h1 h2
  obtain ⟨ce, g1, g2, g3⟩ := hO.2.2.2 (q, ci) hq
  exact vx_athrow hE.1 hE.2.1 d (zx_catchAny pre z suf (by rw [hX.2.2.2.1]; exact hsplit) hpass hx h0 g1 g2 g3 (k ls hls h cb sb H locs cells slots hf hC hO h1 h2))
theorem zs_athrowOut (hE : zE x K cc own nm n F L en ret xt) {q ci : Nat} (hci : ci < 6) (hq : zqin x q ci) (hxt : ∀ z ∈ xt, covers z pc = false) (d : decode cc pc = .ok (.athrow, 1)) : zS x pc lv (va_rf (some q) :: st) (zrethrow ci) := by
  have hX := zEx hE
  obtain ⟨p, l, e, R, s, m, args, below, meth, c, nL, G, enc, Q, X, mc, ms, qs⟩ := x
  dsimp only at hX
  intro ls hls h cb sb H locs cells slots hf hC hO h1 h2
  obtain ⟨ce, g1, g2, g3⟩ := hO.2.2.2 (q, ci) hq
  exact vx_athrow hE.1 hE.2.1 d (vx_out (by rw [hX.2.2.2.1]; exact hxt) hX.2.2.2.2 g1 g2 g3 (fun t ht _ => ⟨ci, h, hci, rfl, hf, by rw [ht]; exact hC, by rw [ht]; exact hO.1⟩) hO.2.1 (by omega) (by omega))
theorem zs_getsN (hE : zE x K cc own nm n F L en ret xt) {C nme desc ref host : String} {index : Nat} {v : Value} (hz : (C, nme, desc, v) ∈ zST K) (hl : Cond.fieldLinkNest own index ref nme desc host ∈ zNest) (hs : zSm C nme desc ref) (d : decode cc pc = .ok (.getstatic index, 3)) (kk : zS x (pc + 3) lv (v :: st) f) : zS x pc lv st f := by
  obtain ⟨p, l, e, R, s, m, args, below, meth, c, nL, G, enc, Q, X, mc, ms, qs⟩ := x
  have hK := zEK hE
  dsimp only at hK
  subst hK
  intro ls hls h cb sb H locs cells slots hf hC hO h1 h2
  obtain ⟨cf, kf, fi, fd, a, cell, g1, g2, g3, g4, g5, g6, g7, g8⟩ := (zEV hE).2.2.2.2.1 _ hz
  exact va_WgetsN hE.1 hE.2.1 hE.2.2.2.2.1 (va_Nw.use rfl ((zEV hE).2.2.1 _ hl)) (zSm_at hs (zEts hE) _ g1) g2 g3 g4 (by rw [hC.2.2 a (Array.getElem?_eq_some_iff.mp g5).1]; exact g5) (fun e => by rw [e] at g6; cases g6) g7 rfl d (kk ls hls h cb sb H locs cells slots hf hC hO h1 h2)
/-- what runs, by the class of the receiver -/
theorem zs_disp {a : Option Nat} {l : List (Nat × ZP β)} (hh : ∀ z ∈ l, zS x pc lv st z.2) : zS x pc lv st (zdisp a l) := by
  obtain ⟨p, l', e, R, s, m, args, below, meth, c, nL, G, enc, Q, X, mc, ms, qs⟩ := x
  intro ls hls h cb sb H locs cells slots hf hC hO h1 h2
  obtain ⟨ci, fs, x0, f, -, hm, hf⟩ := hf
  exact hh _ hm ls hls h cb sb H locs cells slots hf hC hO h1 h2
theorem zs_callST (hE : zE x K cc own nm n F L en ret xt) {α : Type} {y : MethodName} {bytes : ByteArray} {k F' L' index : Nat} {rt : Option FieldType} {As stk : List Value} {encA : α → Option Value} {f : α → ZP β} {m : ZP α} (hm : zMeth K y (zws y bytes k rt) F' L' As encA m) (hcode : Cond.code y bytes k rt ∈ lw_all) (hini : Cond.initialized y.cls ∈ lw_all) (hl : Cond.methodLink own index y ∈ lw_all) (hsta : Cond.static y ∈ lw_all) (hd : y.cls ≠ "java/lang/invoke/MethodHandle" ∧ y.cls ≠ "java/lang/invoke/VarHandle" ∧ (parseMethodDescriptor y.desc).map (fun d => d.parameters.length) = some As.length) (hF : F' + 1 ≤ F) (hL : 8 + (k + 11) + L' ≤ L) (hst : stk = As.reverse ++ st) (hroom : (st.map fun v => v.category).sum ≤ 8) {hs : List (Nat × ZP β)} (hh : ∀ z ∈ hs, zHnd x own xt pc lv z.1 z.2)
    (d : decode cc pc = .ok (.invokestatic index, 3)) (kk : ∀ r : α, zS x (pc + 3) lv ((encA r).toList ++ st) (f r)) : zS x pc lv stk (zcallT m hs f) := by
  have hts := zEts hE
  have hV := zEV hE
  have hr := zEr hE
  have hX := zEx hE
  have hK := zEK hE
  obtain ⟨p, l, e, R, s, m, args, below, meth, c, nL, G, enc, Q, X, mc, ms, qs⟩ := x
  dsimp only at hr hX hK
  intro ls hls h cb sb H locs cells slots hf hC hO h1 h2
  subst hst
  obtain ⟨m1, m2, f1, f2, hf⟩ := hf
  refine zw_callT (vx_runS ⟨hE.1, hE.2.1, hE.2.2.1, hE.2.2.2.2.1, hts⟩ (hm l G hE.2.2.2.2.2.2.2.2.1 hK h m1 m2 _ _ hf) ⟨zcallB hts hcode hini hl hd (by omega) (by omega), hts _ (zq hsta)⟩ ⟨zblind, fun U hU hW => ⟨rfl, zV.moved hW hV, by rw [hU]; exact hC⟩⟩ rfl rfl (by rw [← hE.2.2.2.1]; exact hls.1) rfl (lv_room hroom) d ⟨by omega, by omega⟩) hO (fun r h1 H1 locs1 hq hc ho => kk r ls hls h1 (cb - m1) (sb - m2) H1 locs1 (cells + m1) (slots + m2) hq hc ho (by omega) (by omega)) (fun E h1 H1 locs1 q ce hE6 hx hc ho hcell hcv hcl => zcatch_go hE hh hE6 hx hc ho hcell hcv hcl ls hls (by omega) (by omega))
theorem zs_callIT (hE : zE x K cc own nm n F L en ret xt) {α : Type} {y : MethodName} {bytes : ByteArray} {k F' L' index : Nat} {As stk : List Value} {encA : α → Option Value} {f : α → ZP β} {a : Nat} {m : ZP α} (hm : zMeth K y (zws y bytes k none) F' L' (.ref a :: As) encA m) (hcode : Cond.code y bytes k none ∈ lw_all) (hini : Cond.initialized y.cls ∈ lw_all) (hl : Cond.methodLink own index y ∈ lw_all) (hin : Cond.instanceMethod y ∈ lw_all) (hnmI : y.name = "<init>") (hd : y.cls ≠ "java/lang/invoke/MethodHandle" ∧ y.cls ≠ "java/lang/invoke/VarHandle" ∧ (parseMethodDescriptor y.desc).map (fun d => d.parameters.length) = some As.length) (hF : F' + 1 ≤ F) (hL : 8 + (k + 11) + L' ≤ L) (hst : stk = As.reverse ++ .ref a :: st) (hroom : (st.map fun v => v.category).sum ≤ 8) {hs : List (Nat × ZP β)} (hh : ∀ z ∈ hs, zHnd x own xt pc lv z.1 z.2)
    (d : decode cc pc = .ok (.invokespecial index, 3)) (kk : ∀ r : α, zS x (pc + 3) lv ((encA r).toList ++ st) (f r)) : zS x pc lv stk (zcallT m hs f) := by
  have hts := zEts hE
  have hV := zEV hE
  have hr := zEr hE
  have hX := zEx hE
  have hK := zEK hE
  obtain ⟨p, l, e, R, s, m, args, below, meth, c, nL, G, enc, Q, X, mc, ms, qs⟩ := x
  dsimp only at hr hX hK
  intro ls hls h cb sb H locs cells slots hf hC hO h1 h2
  subst hst
  obtain ⟨m1, m2, f1, f2, hf⟩ := hf
  refine zw_callT (vx_runI (As := As) ⟨hE.1, hE.2.1, hE.2.2.1, hE.2.2.2.2.1, hts⟩ (hm l G hE.2.2.2.2.2.2.2.2.1 hK h m1 m2 _ _ hf) ⟨zcallB hts hcode hini hl hd (by omega) (by omega), hnmI, hts _ (zq hin)⟩ ⟨zblind, fun U hU hW => ⟨rfl, zV.moved hW hV, by rw [hU]; exact hC⟩⟩ rfl rfl (by rw [← hE.2.2.2.1]; exact hls.1) rfl (lv_room hroom) d ⟨by omega, by omega⟩) hO (fun r h1 H1 locs1 hq hc ho => kk r ls hls h1 (cb - m1) (sb - m2) H1 locs1 (cells + m1) (slots + m2) hq hc ho (by omega) (by omega)) (fun E h1 H1 locs1 q ce hE6 hx hc ho hcell hcv hcl => zcatch_go hE hh hE6 hx hc ho hcell hcv hcl ls hls (by omega) (by omega))
theorem zs_callINT (hE : zE x K cc own nm n F L en ret xt) {α : Type} {y : MethodName} {bytes : ByteArray} {k F' L' index : Nat} {As stk : List Value} {encA : α → Option Value} {f : α → ZP β} {a : Nat} {m : ZP α} {host : String} (hm : zMeth K y (zws y bytes k none) F' L' (.ref a :: As) encA m) (hcode : Cond.code y bytes k none ∈ lw_all) (hini : Cond.initialized y.cls ∈ lw_all) (hl : Cond.methodLinkNest own index y host ∈ zNest) (hin : Cond.instanceMethod y ∈ lw_all) (hnmI : y.name = "<init>") (hd : y.cls ≠ "java/lang/invoke/MethodHandle" ∧ y.cls ≠ "java/lang/invoke/VarHandle" ∧ (parseMethodDescriptor y.desc).map (fun d => d.parameters.length) = some As.length) (hF : F' + 1 ≤ F) (hL : 8 + (k + 11) + L' ≤ L) (hst : stk = As.reverse ++ .ref a :: st) (hroom : (st.map fun v => v.category).sum ≤ 8) {hs : List (Nat × ZP β)} (hh : ∀ z ∈ hs, zHnd x own xt pc lv z.1 z.2)
    (d : decode cc pc = .ok (.invokespecial index, 3)) (kk : ∀ r : α, zS x (pc + 3) lv ((encA r).toList ++ st) (f r)) : zS x pc lv stk (zcallT m hs f) := by
  have hts := zEts hE
  have hV := zEV hE
  have hr := zEr hE
  have hX := zEx hE
  have hK := zEK hE
  obtain ⟨p, l, e, R, s, m, args, below, meth, c, nL, G, enc, Q, X, mc, ms, qs⟩ := x
  dsimp only at hr hX hK
  intro ls hls h cb sb H locs cells slots hf hC hO h1 h2
  subst hst
  obtain ⟨m1, m2, f1, f2, hf⟩ := hf
  have hw : ∀ w ∈ zws y bytes k none, ∀ (a' : Array Value) (U : State), s.WarmedH U.vm → w.before a' U = true := pay_in hts (zmeth (zq hcode))
  refine zw_callT (vx_runIN (As := As) ⟨hE.1, hE.2.1, hE.2.2.1, hE.2.2.2.2.1, hts⟩ (hm l G hE.2.2.2.2.2.2.2.2.1 hK h m1 m2 _ _ hf) ⟨⟨⟨rfl, rfl, by show F' + 1 ≤ _; omega, by show 8 + (k + 11) + L' ≤ _; omega, hw, List.mem_cons_self⟩, hts _ (zq hcode), hts _ (zq hini), ⟨hd.1, hd.2.1⟩, fun sig hs => by have h2 := hd.2.2; rw [hs] at h2; exact (Option.some.inj h2).symm, va_Nw.use rfl (hV.2.2.1 _ hl)⟩, hnmI, hts _ (zq hin)⟩ ⟨zblind, fun U hU hW => ⟨rfl, zV.moved hW hV, by rw [hU]; exact hC⟩⟩ rfl rfl (by rw [← hE.2.2.2.1]; exact hls.1) rfl (lv_room hroom) d ⟨by omega, by omega⟩) hO (fun r h1 H1 locs1 hq hc ho => kk r ls hls h1 (cb - m1) (sb - m2) H1 locs1 (cells + m1) (slots + m2) hq hc ho (by omega) (by omega)) (fun E h1 H1 locs1 q ce hE6 hx hc ho hcell hcv hcl => zcatch_go hE hh hE6 hx hc ho hcell hcv hcl ls hls (by omega) (by omega))
theorem zs_callVT (hE : zE x K cc own nm n F L en ret xt) {α : Type} {y : MethodName} {bytes : ByteArray} {k F' L' index : Nat} {rt : Option FieldType} {As stk : List Value} {encA : α → Option Value} {f : α → ZP β} {a : Option Nat} {ci N : Nat} {C : String} {T : u_T} {m : Nat → ZP α} (hc : zCL[ci]? = some (C, T, N)) (hm : ∀ y0 : Nat, zMeth K y (zws y bytes k rt) F' L' (.ref y0 :: As) encA (m y0)) (hcode : Cond.code y bytes k rt ∈ lw_all) (hini : Cond.initialized y.cls ∈ lw_all) (hl : Cond.methodLink own index y ∈ lw_all) (hin : Cond.instanceMethod y ∈ lw_all) (hsel : Cond.selects C y y ∈ zAll) (hd : y.cls ≠ "java/lang/invoke/MethodHandle" ∧ y.cls ≠ "java/lang/invoke/VarHandle" ∧ (parseMethodDescriptor y.desc).map (fun d => d.parameters.length) = some As.length) (hF : F' + 1 ≤ F) (hL : 8 + (k + 11) + L' ≤ L) (hst : stk = As.reverse ++ va_rf a :: st) (hroom : (st.map fun v => v.category).sum ≤ 8) {hs : List (Nat × ZP β)} (hh : ∀ z ∈ hs, zHnd x own xt pc lv z.1 z.2)
    (d : decode cc pc = .ok (.invokevirtual index, 3)) (kk : ∀ r : α, zS x (pc + 3) lv ((encA r).toList ++ st) (f r)) : zS x pc lv stk (zcallVT a ci m hs f) := by
  have hts := zEts hE
  have hV := zEV hE
  have hr := zEr hE
  have hX := zEx hE
  have hK := zEK hE
  obtain ⟨p, l, e, R, s, m, args, below, meth, c, nL, G, enc, Q, X, mc, ms, qs⟩ := x
  dsimp only at hr hX hK
  intro ls hls h cb sb H locs cells slots hf hC hO h1 h2
  subst hst
  unfold zcallVT at hf
  cases hv : zobj h a ci with
  | none => rw [hv] at hf; exact hf.elim
  | some yf =>
  obtain ⟨y0, fs⟩ := yf
  rw [hv] at hf
  obtain ⟨rfl, hy⟩ := zobj_spec hv
  have hy : h y0 = some (.inr (ci, fs)) ∨ G.2.2.2.2 y0 = some (.inr (ci, fs)) := Or.inl hy
  obtain ⟨m1, m2, f1, f2, hf⟩ := hf
  have hrec : ∃ cell : Cell, H[y0]? = some cell ∧ cell.vm.isStatics = false ∧ s.vm.findClass C = some cell.cls := by
    obtain ⟨cell, q1, q2, q3, q4⟩ := zrd hV hC hy
    exact ⟨cell, q1, q3, by rw [q4.1]; exact (hV.1 ci _ hc).1.2.1⟩
  exact zw_callT (vx_runV (As := As) ⟨hE.1, hE.2.1, hE.2.2.1, hE.2.2.2.2.1, hts⟩ (hm y0 l G hE.2.2.2.2.2.2.2.2.1 hK h m1 m2 _ _ hf) ⟨zcallB hts hcode hini hl hd (by omega) (by omega), hts _ (zq hin), hts _ hsel⟩ ⟨zblind, hrec, fun U hU hW => ⟨rfl, zV.moved hW hV, by rw [hU]; exact hC⟩⟩ rfl rfl (by rw [← hE.2.2.2.1]; exact hls.1) rfl (lv_room hroom) d ⟨by omega, by omega⟩) hO (fun r h1 H1 locs1 hq hc ho => kk r ls hls h1 (cb - m1) (sb - m2) H1 locs1 (cells + m1) (slots + m2) hq hc ho (by omega) (by omega)) (fun E h1 H1 locs1 q ce hE6 hx hc ho hcell hcv hcl => zcatch_go hE hh hE6 hx hc ho hcell hcv hcl ls hls (by omega) (by omega))
theorem zs_callUT (hE : zE x K cc own nm n F L en ret xt) {α : Type} {y : MethodName} {bytes : ByteArray} {k F' L' index : Nat} {rt : Option FieldType} {As stk : List Value} {encA : α → Option Value} {f : α → ZP β} {a : Option Nat} {ci N : Nat} {xx : MethodName} {owner : String} {C : String} {T : u_T} {m : Nat → ZP α} (hc : zCL[ci]? = some (C, T, N)) (hm : ∀ y0 : Nat, zMeth K y (zws y bytes k rt) F' L' (.ref y0 :: As) encA (m y0)) (hcode : Cond.code y bytes k rt ∈ lw_all) (hini : Cond.initialized y.cls ∈ lw_all) (hl : Cond.methodLink own index xx ∈ lw_all) (hsm : Cond.sameMethod xx.cls owner xx.name xx.desc ∈ lw_all) (hdc : Cond.declares ⟨owner, xx.name, xx.desc⟩ ∈ zNest ∨ ∃ (b0 : ByteArray) (k0 : Nat) (r0 : Option FieldType), Cond.code ⟨owner, xx.name, xx.desc⟩ b0 k0 r0 ∈ lw_all ∧ Cond.instanceMethod ⟨owner, xx.name, xx.desc⟩ ∈ lw_all) (hown2 : owner ≠ "java/lang/invoke/MethodHandle" ∧ owner ≠ "java/lang/invoke/VarHandle") (hin : Cond.instanceMethod y ∈ lw_all) (hsel : Cond.selects C xx y ∈ lw_all) (hd : y.cls ≠ "java/lang/invoke/MethodHandle" ∧ y.cls ≠ "java/lang/invoke/VarHandle" ∧ (parseMethodDescriptor xx.desc).map (fun d => d.parameters.length) = some As.length) (hF : F' + 1 ≤ F) (hL : 8 + (k + 11) + L' ≤ L) (hst : stk = As.reverse ++ va_rf a :: st) (hroom : (st.map fun v => v.category).sum ≤ 8) {hs : List (Nat × ZP β)} (hh : ∀ z ∈ hs, zHnd x own xt pc lv z.1 z.2)
    (d : decode cc pc = .ok (.invokevirtual index, 3)) (kk : ∀ r : α, zS x (pc + 3) lv ((encA r).toList ++ st) (f r)) : zS x pc lv stk (zcallVT a ci m hs f) := by
  have hts := zEts hE
  have hV := zEV hE
  have hr := zEr hE
  have hX := zEx hE
  have hK := zEK hE
  obtain ⟨p, l, e, R, s, m, args, below, meth, c, nL, G, enc, Q, X, mc, ms, qs⟩ := x
  dsimp only at hr hX hK
  intro ls hls h cb sb H locs cells slots hf hC hO h1 h2
  subst hst
  unfold zcallVT at hf
  cases hv : zobj h a ci with
  | none => rw [hv] at hf; exact hf.elim
  | some yf =>
  obtain ⟨y0, fs⟩ := yf
  rw [hv] at hf
  obtain ⟨rfl, hy⟩ := zobj_spec hv
  have hy : h y0 = some (.inr (ci, fs)) ∨ G.2.2.2.2 y0 = some (.inr (ci, fs)) := Or.inl hy
  obtain ⟨m1, m2, f1, f2, hf⟩ := hf
  have hrec : ∃ cell : Cell, H[y0]? = some cell ∧ cell.vm.isStatics = false ∧ s.vm.findClass C = some cell.cls := by
    obtain ⟨cell, q1, q2, q3, q4⟩ := zrd hV hC hy
    exact ⟨cell, q1, q3, by rw [q4.1]; exact (hV.1 ci _ hc).1.2.1⟩
  have hw : ∀ w ∈ zws y bytes k rt, ∀ (a' : Array Value) (U : State), s.WarmedH U.vm → w.before a' U = true := pay_in hts (zmeth (zq hcode))
  exact zw_callT (vx_runU (As := As) (x := xx) (owner := owner) ⟨hE.1, hE.2.1, hE.2.2.1, hE.2.2.2.2.1, hts⟩ (hm y0 l G hE.2.2.2.2.2.2.2.2.1 hK h m1 m2 _ _ hf) ⟨⟨rfl, rfl, by show F' + 1 ≤ _; omega, by show 8 + (k + 11) + L' ≤ _; omega, hw, List.mem_cons_self⟩, hts _ (zq hcode), hts _ (zq hini), hown2, fun sig hs => by have h2 := hd.2.2; rw [hs] at h2; exact (Option.some.inj h2).symm, hts _ (zq hl), hts _ (zq hsm), (by rcases hdc with hdc | ⟨b0, k0, r0, hd1, hd2⟩; exact va_Decl.abs (hV.2.2.1 _ hdc); exact va_Decl.of (hts _ (zq hd2)) (hts _ (zq hd1))), hts _ (zq hsel), hts _ (zq hin)⟩ ⟨zblind, hrec, fun U hU hW => ⟨rfl, zV.moved hW hV, by rw [hU]; exact hC⟩⟩ rfl rfl (by rw [← hE.2.2.2.1]; exact hls.1) rfl (lv_room hroom) d ⟨by omega, by omega⟩) hO (fun r h1 H1 locs1 hq hc ho => kk r ls hls h1 (cb - m1) (sb - m2) H1 locs1 (cells + m1) (slots + m2) hq hc ho (by omega) (by omega)) (fun E h1 H1 locs1 q ce hE6 hx hc ho hcell hcv hcl => zcatch_go hE hh hE6 hx hc ho hcell hcv hcl ls hls (by omega) (by omega))
theorem zs_callFT (hE : zE x K cc own nm n F L en ret xt) {α : Type} {y : MethodName} {bytes : ByteArray} {k F' L' index : Nat} {rt : Option FieldType} {As stk : List Value} {encA : α → Option Value} {f : α → ZP β} {a : Option Nat} {ci N count : Nat} {xx : MethodName} {C : String} {T : u_T} {m : Nat → ZP α} (hc : zCL[ci]? = some (C, T, N)) (hm : ∀ y0 : Nat, zMeth K y (zws y bytes k rt) F' L' (.ref y0 :: As) encA (m y0)) (hcode : Cond.code y bytes k rt ∈ lw_all) (hini : Cond.initialized y.cls ∈ lw_all) (hl : Cond.methodLink own index xx ∈ lw_all) (hfw : (C, xx, y) ∈ zFW) (hin : Cond.instanceMethod y ∈ lw_all) (hsel : Cond.selects C xx y ∈ lw_all) (hd : xx.cls ≠ "java/lang/invoke/MethodHandle" ∧ xx.cls ≠ "java/lang/invoke/VarHandle" ∧ (parseMethodDescriptor xx.desc).map (fun d => d.parameters.length) = some As.length) (hF : F' + 1 ≤ F) (hL : 8 + (k + 11) + L' ≤ L) (hst : stk = As.reverse ++ va_rf a :: st) (hroom : (st.map fun v => v.category).sum ≤ 8) {hs : List (Nat × ZP β)} (hh : ∀ z ∈ hs, zHnd x own xt pc lv z.1 z.2)
    (d : decode cc pc = .ok (.invokeinterface index count, 5)) (kk : ∀ r : α, zS x (pc + 5) lv ((encA r).toList ++ st) (f r)) : zS x pc lv stk (zcallVT a ci m hs f) := by
  have hts := zEts hE
  have hV := zEV hE
  have hr := zEr hE
  have hX := zEx hE
  have hK := zEK hE
  obtain ⟨p, l, e, R, s, m, args, below, meth, c, nL, G, enc, Q, X, mc, ms, qs⟩ := x
  dsimp only at hr hX hK
  intro ls hls h cb sb H locs cells slots hf hC hO h1 h2
  subst hst
  unfold zcallVT at hf
  cases hv : zobj h a ci with
  | none => rw [hv] at hf; exact hf.elim
  | some yf =>
  obtain ⟨y0, fs⟩ := yf
  rw [hv] at hf
  obtain ⟨rfl, hy⟩ := zobj_spec hv
  have hy : h y0 = some (.inr (ci, fs)) ∨ G.2.2.2.2 y0 = some (.inr (ci, fs)) := Or.inl hy
  obtain ⟨m1, m2, f1, f2, hf⟩ := hf
  have hrec : ∃ cell : Cell, H[y0]? = some cell ∧ cell.vm.isStatics = false ∧ s.vm.findClass C = some cell.cls := by
    obtain ⟨cell, q1, q2, q3, q4⟩ := zrd hV hC hy
    exact ⟨cell, q1, q3, by rw [q4.1]; exact (hV.1 ci _ hc).1.2.1⟩
  have hw : ∀ w ∈ zws y bytes k rt, ∀ (a' : Array Value) (U : State), s.WarmedH U.vm → w.before a' U = true := pay_in hts (zmeth (zq hcode))
  obtain ⟨w1, w2, w3, w4, w5⟩ := hV.2.2.2.1 _ hfw
  exact zw_callT5 (vx_runF (As := As) (x := xx) (hV.1 ci _ hc).1.2 ⟨hE.1, hE.2.1, hE.2.2.1, hE.2.2.2.2.1, hts⟩ (hm y0 l G hE.2.2.2.2.2.2.2.2.1 hK h m1 m2 _ _ hf) ⟨⟨rfl, rfl, by show F' + 1 ≤ _; omega, by show 8 + (k + 11) + L' ≤ _; omega, hw, List.mem_cons_self⟩, hts _ (zq hl), va_any rfl w1, va_any rfl w2, hts _ (zq hsel), hts _ (zq hin), va_any rfl w3, va_any rfl w4, va_any rfl w5, hts _ (zq hini), hts _ (zq hcode), ⟨hd.1, hd.2.1⟩, fun sig hs => by have h2 := hd.2.2; rw [hs] at h2; exact (Option.some.inj h2).symm⟩ ⟨zblind, hrec, fun U hU hW => ⟨rfl, zV.moved hW hV, by rw [hU]; exact hC⟩⟩ rfl rfl (by rw [← hE.2.2.2.1]; exact hls.1) rfl (lv_room hroom) d ⟨by omega, by omega⟩) hO (fun r h1 H1 locs1 hq hc ho => kk r ls hls h1 (cb - m1) (sb - m2) H1 locs1 (cells + m1) (slots + m2) hq hc ho (by omega) (by omega)) (fun E h1 H1 locs1 q ce hE6 hx hc ho hcell hcv hcl => zcatch_go hE hh hE6 hx hc ho hcell hcv hcl ls hls (by omega) (by omega))
theorem zs_callSX (hE : zE x K cc own nm n F L en ret xt) {α : Type} {y : MethodName} {bytes : ByteArray} {k F' L' index : Nat} {rt : Option FieldType} {hh : List (Nat × Nat × Nat × Nat)} {As stk : List Value} {encA : α → Option Value} {f : α → ZP β} {m : ZP α} (hm : zMeth K y (zwsW y bytes k rt hh) F' L' As encA m) (hcode : Cond.codeWith y bytes k rt hh ∈ lw_all) (hini : Cond.initialized y.cls ∈ lw_all) (hl : Cond.methodLink own index y ∈ lw_all) (hsta : Cond.static y ∈ lw_all) (hd : y.cls ≠ "java/lang/invoke/MethodHandle" ∧ y.cls ≠ "java/lang/invoke/VarHandle" ∧ (parseMethodDescriptor y.desc).map (fun d => d.parameters.length) = some As.length) (hF : F' + 1 ≤ F) (hL : 8 + (k + 11) + L' ≤ L) (hst : stk = As.reverse ++ st) (hroom : (st.map fun v => v.category).sum ≤ 8) (hxt : ∀ z ∈ xt, covers z pc = false)
    (d : decode cc pc = .ok (.invokestatic index, 3)) (kk : ∀ r : α, zS x (pc + 3) lv ((encA r).toList ++ st) (f r)) : zS x pc lv stk (zcall m f) := by
  have hts := zEts hE
  have hV := zEV hE
  have hr := zEr hE
  have hX := zEx hE
  have hK := zEK hE
  obtain ⟨p, l, e, R, s, m, args, below, meth, c, nL, G, enc, Q, X, mc, ms, qs⟩ := x
  dsimp only at hr hX hK
  intro ls hls h cb sb H locs cells slots hf hC hO h1 h2
  subst hst
  obtain ⟨m1, m2, f1, f2, hf⟩ := hf
  have hw : ∀ w ∈ zwsW y bytes k rt hh, ∀ (a' : Array Value) (U : State), s.WarmedH U.vm → w.before a' U = true := pay_in hts (zmethW (zq hcode))
  refine zw_call (vx_runSX ⟨hE.1, hE.2.1, hE.2.2.1, hE.2.2.2.2.1, hts⟩ (hm l G hE.2.2.2.2.2.2.2.2.1 hK h m1 m2 _ X hf) ⟨⟨rfl, rfl, by show F' + 1 ≤ _; omega, by show 8 + (k + 11) + L' ≤ _; omega, hw, List.mem_cons_self⟩, hts _ (zq hcode), hts _ (zq hini), ⟨hd.1, hd.2.1⟩, fun sig hs => by have h2 := hd.2.2; rw [hs] at h2; exact (Option.some.inj h2).symm, hts _ (zq hl), hts _ (zq hsta)⟩ ⟨zblind, fun U hU hW => ⟨rfl, zV.moved hW hV, by rw [hU]; exact hC⟩⟩ rfl rfl (by rw [← hE.2.2.2.1]; exact hls.1) rfl (lv_room hroom) d ⟨by omega, by omega⟩) hO hX.2.2.2.2 (by rw [hX.2.2.2.1]; exact hxt) (by omega) (by omega) (fun r h1 H1 locs1 hq hc ho => kk r ls hls h1 (cb - m1) (sb - m2) H1 locs1 (cells + m1) (slots + m2) hq hc ho (by omega) (by omega))
theorem zs_callVX (hE : zE x K cc own nm n F L en ret xt) {α : Type} {y : MethodName} {bytes : ByteArray} {k F' L' index : Nat} {rt : Option FieldType} {hh : List (Nat × Nat × Nat × Nat)} {As stk : List Value} {encA : α → Option Value} {f : α → ZP β} {a : Option Nat} {ci N : Nat} {C : String} {T : u_T} {m : Nat → ZP α} (hc : zCL[ci]? = some (C, T, N)) (hm : ∀ y0 : Nat, zMeth K y (zwsW y bytes k rt hh) F' L' (.ref y0 :: As) encA (m y0)) (hcode : Cond.codeWith y bytes k rt hh ∈ lw_all) (hini : Cond.initialized y.cls ∈ lw_all) (hl : Cond.methodLink own index y ∈ lw_all) (hin : Cond.instanceMethod y ∈ lw_all) (hsel : Cond.selects C y y ∈ zAll) (hd : y.cls ≠ "java/lang/invoke/MethodHandle" ∧ y.cls ≠ "java/lang/invoke/VarHandle" ∧ (parseMethodDescriptor y.desc).map (fun d => d.parameters.length) = some As.length) (hF : F' + 1 ≤ F) (hL : 8 + (k + 11) + L' ≤ L) (hst : stk = As.reverse ++ va_rf a :: st) (hroom : (st.map fun v => v.category).sum ≤ 8) (hxt : ∀ z ∈ xt, covers z pc = false)
    (d : decode cc pc = .ok (.invokevirtual index, 3)) (kk : ∀ r : α, zS x (pc + 3) lv ((encA r).toList ++ st) (f r)) : zS x pc lv stk (zcallV a ci m f) := by
  have hts := zEts hE
  have hV := zEV hE
  have hr := zEr hE
  have hX := zEx hE
  have hK := zEK hE
  obtain ⟨p, l, e, R, s, m, args, below, meth, c, nL, G, enc, Q, X, mc, ms, qs⟩ := x
  dsimp only at hr hX hK
  intro ls hls h cb sb H locs cells slots hf hC hO h1 h2
  subst hst
  unfold zcallV at hf
  cases hv : zobj h a ci with
  | none => rw [hv] at hf; exact hf.elim
  | some yf =>
  obtain ⟨y0, fs⟩ := yf
  rw [hv] at hf
  obtain ⟨rfl, hy⟩ := zobj_spec hv
  have hy : h y0 = some (.inr (ci, fs)) ∨ G.2.2.2.2 y0 = some (.inr (ci, fs)) := Or.inl hy
  obtain ⟨m1, m2, f1, f2, hf⟩ := hf
  have hrec : ∃ cell : Cell, H[y0]? = some cell ∧ cell.vm.isStatics = false ∧ s.vm.findClass C = some cell.cls := by
    obtain ⟨cell, q1, q2, q3, q4⟩ := zrd hV hC hy
    exact ⟨cell, q1, q3, by rw [q4.1]; exact (hV.1 ci _ hc).1.2.1⟩
  have hw : ∀ w ∈ zwsW y bytes k rt hh, ∀ (a' : Array Value) (U : State), s.WarmedH U.vm → w.before a' U = true := pay_in hts (zmethW (zq hcode))
  exact zw_call (vx_runVX (As := As) ⟨hE.1, hE.2.1, hE.2.2.1, hE.2.2.2.2.1, hts⟩ (hm y0 l G hE.2.2.2.2.2.2.2.2.1 hK h m1 m2 _ X hf) ⟨⟨rfl, rfl, by show F' + 1 ≤ _; omega, by show 8 + (k + 11) + L' ≤ _; omega, hw, List.mem_cons_self⟩, hts _ (zq hcode), hts _ (zq hini), ⟨hd.1, hd.2.1⟩, fun sig hs => by have h2 := hd.2.2; rw [hs] at h2; exact (Option.some.inj h2).symm, hts _ (zq hl), hts _ (zq hin), hts _ hsel⟩ ⟨zblind, hrec, fun U hU hW => ⟨rfl, zV.moved hW hV, by rw [hU]; exact hC⟩⟩ rfl rfl (by rw [← hE.2.2.2.1]; exact hls.1) rfl (lv_room hroom) d ⟨by omega, by omega⟩) hO hX.2.2.2.2 (by rw [hX.2.2.2.1]; exact hxt) (by omega) (by omega) (fun r h1 H1 locs1 hq hc ho => kk r ls hls h1 (cb - m1) (sb - m2) H1 locs1 (cells + m1) (slots + m2) hq hc ho (by omega) (by omega))
theorem zs_callFU (hE : zE x K cc own nm n F L en ret xt) {α : Type} {y : MethodName} {bytes : ByteArray} {k F' L' index : Nat} {rt : Option FieldType} {As stk : List Value} {encA : α → Option Value} {f : α → ZP β} {a : Option Nat} {ci N count : Nat} {xx : MethodName} {J : String} {C : String} {T : u_T} {m : Nat → ZP α} (hc : zCL[ci]? = some (C, T, N)) (hm : ∀ y0 : Nat, zMeth K y (zws y bytes k rt) F' L' (.ref y0 :: As) encA (m y0)) (hcode : Cond.code y bytes k rt ∈ lw_all) (hini : Cond.initialized y.cls ∈ lw_all) (hfu : own = "TokenRing" ∧ index = 304 ∧ xx = ⟨"java/util/SortedMap", "size", "()I"⟩ ∧ C = "java/util/TreeMap$AscendingSubMap" ∧ y = ⟨"java/util/TreeMap$NavigableSubMap", "size", "()I"⟩ ∧ J = "java/util/Map") (hdc : Cond.declares ⟨J, xx.name, xx.desc⟩ ∈ zNest) (hca : Cond.castable C xx.cls ∈ zNest) (hin : Cond.instanceMethod y ∈ lw_all) (hsel : Cond.selects C ⟨J, xx.name, xx.desc⟩ y ∈ lw_all) (hd : xx.cls ≠ "java/lang/invoke/MethodHandle" ∧ xx.cls ≠ "java/lang/invoke/VarHandle" ∧ (parseMethodDescriptor xx.desc).map (fun d => d.parameters.length) = some As.length) (hF : F' + 1 ≤ F) (hL : 8 + (k + 11) + L' ≤ L) (hst : stk = As.reverse ++ va_rf a :: st) (hroom : (st.map fun v => v.category).sum ≤ 8) (hxt : ∀ z ∈ xt, covers z pc = false)
    (d : decode cc pc = .ok (.invokeinterface index count, 5)) (kk : ∀ r : α, zS x (pc + 5) lv ((encA r).toList ++ st) (f r)) : zS x pc lv stk (zcallV a ci m f) := by
  have hts := zEts hE
  have hV := zEV hE
  have hr := zEr hE
  have hX := zEx hE
  have hK := zEK hE
  obtain ⟨p, l, e, R, s, m, args, below, meth, c, nL, G, enc, Q, X, mc, ms, qs⟩ := x
  dsimp only at hr hX hK
  intro ls hls h cb sb H locs cells slots hf hC hO h1 h2
  subst hst
  unfold zcallV at hf
  cases hv : zobj h a ci with
  | none => rw [hv] at hf; exact hf.elim
  | some yf =>
  obtain ⟨y0, fs⟩ := yf
  rw [hv] at hf
  obtain ⟨rfl, hy⟩ := zobj_spec hv
  have hy : h y0 = some (.inr (ci, fs)) ∨ G.2.2.2.2 y0 = some (.inr (ci, fs)) := Or.inl hy
  obtain ⟨m1, m2, f1, f2, hf⟩ := hf
  have hrec : ∃ cell : Cell, H[y0]? = some cell ∧ cell.vm.isStatics = false ∧ s.vm.findClass C = some cell.cls := by
    obtain ⟨cell, q1, q2, q3, q4⟩ := zrd hV hC hy
    exact ⟨cell, q1, q3, by rw [q4.1]; exact (hV.1 ci _ hc).1.2.1⟩
  have hw : ∀ w ∈ zws y bytes k rt, ∀ (a' : Array Value) (U : State), s.WarmedH U.vm → w.before a' U = true := pay_in hts (zmeth (zq hcode))
  have w6 := hV.2.2.1 _ hdc
  have w7 := hV.2.2.1 _ hca
  obtain ⟨w1, w2, w3, w4, w5⟩ := hV.2.2.2.2.2.2.1.2.2.2.2
  obtain ⟨rfl, rfl, rfl, rfl, rfl, rfl⟩ := hfu
  exact zw_call5 (zx_runFU (As := As) (hV.1 ci _ hc).1.2 ⟨hE.1, hE.2.1, hE.2.2.1, hE.2.2.2.2.1, hts⟩ (hm y0 l G hE.2.2.2.2.2.2.2.2.1 hK h m1 m2 _ X hf) ⟨⟨rfl, rfl, by show F' + 1 ≤ _; omega, by show 8 + (k + 11) + L' ≤ _; omega, hw, List.mem_cons_self⟩, va_Nw.use rfl w1, va_Nw.use rfl w6, va_Nw.use rfl w3, by decide, by decide, va_Nw.use rfl w2, hts _ (zq hsel), hts _ (zq hin), va_Nw.use rfl w4, va_Nw.use rfl w5, va_Nw.use rfl w7, hts _ (zq hini), hts _ (zq hcode), ⟨hd.1, hd.2.1⟩, fun sig hs => by have h2 := hd.2.2; rw [hs] at h2; exact (Option.some.inj h2).symm⟩ ⟨zblind, hrec, fun U hU hW => ⟨rfl, zV.moved hW hV, by rw [hU]; exact hC⟩⟩ rfl rfl (by rw [← hE.2.2.2.1]; exact hls.1) rfl (lv_room hroom) d ⟨by omega, by omega⟩) hO hX.2.2.2.2 (by rw [hX.2.2.2.1]; exact hxt) (by omega) (by omega) (fun r h1 H1 locs1 hq hc ho => kk r ls hls h1 (cb - m1) (sb - m2) H1 locs1 (cells + m1) (slots + m2) hq hc ho (by omega) (by omega))
end ZR9
