section ZR5
variable {β : Type} {x : ZX β} {K : ZK} {cc : ByteArray} {own nm : String} {n F L : Nat} {en : β → Option Value} {ret : Option FieldType} {xt : List ExceptionTableEntry} {pc : Nat} {lv lv' : List (Nat × Value)} {st : List Value} {f g : ZP β}
/-- a known object's class can stand where Object is asked -/
theorem zobjOK {G : ZG} {s : State} {h : ZH} {H : Heap} (hV : zV G s) (hC : zC G h H) {v : Nat} (hk : zkno h (some v)) (hob : ∀ r ∈ zCL, Cond.castable r.1 "java/lang/Object" ∈ zNest) : va_Any "java/lang/Object" s H v := by
  unfold zkno at hk
  cases hv : h v with
  | none => simp [hv] at hk
  | some e =>
    cases e with
    | inl A => simp [hv] at hk
    | inr o =>
      obtain ⟨-, cell, g1, g2, g3, r, hr, g4⟩ := hC.1 v _ hv
      obtain ⟨⟨hS, hfc, kC, hkC, hkind⟩, -⟩ := hV.1 o.1 r hr
      obtain ⟨c0, t0, f1, f2, f3⟩ := Cond.castable_spec (hV.2.2.1 _ (hob r (List.mem_of_getElem? hr)))
      have hcls : cell.cls = G.1.1 o.1 := g3
      have e1 : c0 = cell.cls := by rw [hcls]; exact Option.some.inj (f1.symm.trans hfc)
      refine ⟨cell, g1, by rw [g2]; rfl, ⟨kC, by rw [hcls]; exact hkC⟩, fun comp hc => ?_⟩
      have e2 : t0 = comp := Option.some.inj (f2.symm.trans hc)
      rw [← e1, ← e2]
      exact f3
theorem zcastO : ∀ r ∈ zCL, Cond.castable r.1 "java/lang/Object" ∈ zNest := by
  intro r hr
  simp only [zCL, List.mem_cons, List.not_mem_nil, or_false] at hr
  rcases hr with rfl | rfl | rfl | rfl | rfl | rfl | rfl | rfl | rfl | rfl | rfl | rfl | rfl | rfl | rfl | rfl | rfl | rfl | rfl | rfl | rfl | rfl | rfl | rfl | rfl | rfl | rfl | rfl | rfl | rfl | rfl | rfl | rfl | rfl | rfl | rfl | rfl | rfl | rfl | rfl | rfl | rfl
  · exact zn q3313 rfl
  · exact zn q3318 rfl
  · exact zn q3319 rfl
  · exact zn q3321 rfl
  · exact zn q3322 rfl
  · exact zn q3327 rfl
  · exact zn q3343 rfl
  · exact zn q3337 rfl
  · exact zn q3323 rfl
  · exact zn q3324 rfl
  · exact zn q3314 rfl
  · exact zn q3326 rfl
  · exact zn q3328 rfl
  · exact zn q3330 rfl
  · exact zn q3332 rfl
  · exact zn q3334 rfl
  · exact zn q3342 rfl
  · exact zn q3338 rfl
  · exact zn q3341 rfl
  · exact zn q3346 rfl
  · exact zn q3353 rfl
  · exact zn q3315 rfl
  · exact zn q3333 rfl
  · exact zn q3354 rfl
  · exact zn q3311 rfl
  · exact zn q3340 rfl
  · exact zn q3344 rfl
  · exact zn q3345 rfl
  · exact zn q3347 rfl
  · exact zn q3348 rfl
  · exact zn q3349 rfl
  · exact zn q3350 rfl
  · exact zn q3351 rfl
  · exact zn q3352 rfl
  · exact zn q3312 rfl
  · exact zn q3316 rfl
  · exact zn q3317 rfl
  · exact zn q3325 rfl
  · exact zn q3329 rfl
  · exact zn q3331 rfl
  · exact zn q3335 rfl
  · exact zn q3339 rfl
theorem zs_astR (hE : zE x K cc own nm n F L en ret xt) {a v : Option Nat} {i : Int32} (d : decode cc pc = .ok (.aastore, 1)) (kk : zS x (pc + 1) lv st f) : zS x pc lv (va_rf v :: .int i :: va_rf a :: st) (zastR a i v f) := by
  obtain ⟨p, l, e, R, s, m, args, below, meth, c, nL, G, enc, Q, X, mc, ms, qs⟩ := x
  intro ls hls h cb sb H locs cells slots hf hC hO h1 h2
  unfold zastR at hf
  cases hv : zarR h a 4 with
  | none => rw [hv] at hf; exact hf.elim
  | some r =>
    obtain ⟨y, k, g0⟩ := r
    rw [hv] at hf
    obtain ⟨rfl, hy⟩ := zarR_spec hv
    obtain ⟨hA, cell, q1, q2, q4⟩ := hC.1 y _ hy
    have q3 : cell.vm.isStatics = false := by rw [q2]; rfl
    obtain ⟨z1, z2⟩ := zin q4 hf.1
    have hlt : i.toNatClampNeg < k := Nat.not_le.mp fun q => hf.1 (Or.inr q)
    have harr := zisA (zEV hE) (ty := .object "java/lang/Object") rfl q3 q4
    have hkn : cell.vm ≠ .unknown := by rw [q2]; exact fun z => nomatch z
    have hset : zcell G (.inl (4, k, .inr (.inr (.inr (.inr (va_up g0 i.toNatClampNeg v)))))) (cell.setSlot i.toNatClampNeg (va_rf v)) := zcell_set q4 hlt (by simp [zval, va_up]) (fun j hj => by simp [zval, va_up, hj])
    cases v with
    | none => exact va_WaastN hE.1 hE.2.1 q1 harr hkn z1 rfl rfl d fun H1 e1 e2 e3 => kk ls hls _ cb sb H1 _ cells slots hf.2.2 (zC_put hC hy e1 q2 hset e2 e3) (zO_put hO hA q1 e1 e3) h1 h2
    | some w =>
      obtain ⟨cv, w1, w2, ⟨kC, w3⟩, w4⟩ := zobjOK (zEV hE) hC hf.2.1 zcastO
      obtain ⟨-, hRA⟩ := zV_RA (zEV hE) (t := 4) rfl (by decide)
      obtain ⟨kA, comp, k1, k2, k3, -⟩ := hRA
      obtain ⟨kO, hkO, -⟩ := Vm.findClass_spec k3
      exact W.aast hE.1 hE.2.1 q1 (znst q3) hkn (by rw [q4.1]; exact k1) k2 rfl hkO ⟨fun q => z1 (Or.inl q), Nat.not_le.mp fun q => z1 (Or.inr q)⟩ w1 (znst w2) w3 (w4 comp k3) rfl rfl d fun H1 e1 e2 e3 => kk ls hls _ cb sb H1 _ cells slots hf.2.2 (zC_put hC hy e1 q2 hset e2 e3) (zO_put hO hA q1 e1 e3) h1 h2
theorem zs_newA (hE : zE x K cc own nm n F L en ret xt) (t : Nat) {at0 : ArrayType} {ty : FieldType} {a0 : (Nat → Int32) ⊕ (Nat → Int64) ⊕ (Nat → UInt32) ⊕ (Nat → UInt64) ⊕ (Nat → Option Nat)} {v : Int32} {f : Nat → ZP β} (hw : Cond.arrayClass (newarray.typeOf at0) ∈ lw_all) (hty : newarray.typeOf at0 = ty) (ht : zTY[t]? = some ty) (ht5 : t < 5) (hRA : ∀ (U : State) (cA : ClassId), va_RA U cA ty → U.vm.findClass ("[" ++ ty.toString) = some cA) (ha0 : ∀ j, zval a0 j = defaultValue ty) (hcb : componentBytes ty ≤ 8) (d : decode cc pc = .ok (.newarray at0, 2))
    (kk : ∀ q : Nat, zS x (pc + 2) lv (va_rf (some q) :: st) (f q)) : zS x pc lv (.int v :: st) (znewA K t v a0 f) := by
  obtain ⟨p, l, e, R, s, m, args, below, meth, c, nL, G, enc, Q, X, mc, ms, qs⟩ := x
  have hK := zEK hE
  dsimp only at hK
  subst hK
  subst hty
  intro ls hls h cb sb H locs cells slots hf hC hO h1 h2
  obtain ⟨f1, f2, f3, f4, hf⟩ := hf
  obtain ⟨z1, z2⟩ := zC_fresh (zEV hE) hC
  obtain ⟨-, -, hRc, hRs⟩ := zEr hE
  dsimp only at hRc hRs
  refine va_newaK hE.1 hE.2.1 (zEts hE _ (zq hw)) rfl d rfl f1 rfl (Nat.le_trans (Nat.mul_le_mul f2 hcb) (by decide)) (by omega) (by omega) rfl fun H1 cA e1 e2 e3 hAr hNm => ?_
  refine kk H.size ls hls _ (cb - 1) (sb - v.toNatClampNeg) H1 locs (cells + 1) (slots + v.toNatClampNeg) (hf H.size z1 z2) (zC_new hC e1 rfl ⟨?_, by simp [arrV_size], fun j hj => ?_⟩ e2 e3) (zO_new hO e3) (by omega) (by omega)
  · have := hRA s _ (zV_RA (zEV hE) ht ht5).2
    exact Option.some.inj (hNm.symm.trans this)
  · have hj : j < v.toNatClampNeg := hj
    rw [arrV_read _ _ hj]
    exact congrArg some (ha0 j).symm
theorem zs_newR (hE : zE x K cc own nm n F L en ret xt) {index : Nat} {v : Int32} {f : Nat → ZP β} (hcl : Cond.classLink own index "java/lang/Object" ∈ lw_all) (d : decode cc pc = .ok (.anewarray index, 3))
    (kk : ∀ q : Nat, zS x (pc + 3) lv (va_rf (some q) :: st) (f q)) : zS x pc lv (.int v :: st) (znewA K 4 v (.inr (.inr (.inr (.inr (fun _ => none))))) f) := by
  obtain ⟨p, l, e, R, s, m, args, below, meth, c, nL, G, enc, Q, X, mc, ms, qs⟩ := x
  have hK := zEK hE
  dsimp only at hK
  subst hK
  intro ls hls h cb sb H locs cells slots hf hC hO h1 h2
  obtain ⟨f1, f2, f3, f4, hf⟩ := hf
  obtain ⟨z1, z2⟩ := zC_fresh (zEV hE) hC
  obtain ⟨-, -, hRc, hRs⟩ := zEr hE
  dsimp only at hRc hRs
  refine W.anew hE.1 hE.2.1 hE.2.2.2.2.1 (zEts hE _ (zq hcl)) (va_AO.use (zEV hE).2.2.2.2.2.2.1.2.1) rfl d rfl f1 (Nat.le_trans (Nat.mul_le_mul_right 4 f2) (by decide)) (by omega) (by omega) fun cA kA comp k1 k2 k3 k4 => ?_
  generalize hH1 : H.push ({ cls := cA, slots := Array.replicate v.toNatClampNeg .null, vm := .none } : Cell) = H1
  have e2 : H1.size = H.size + 1 := by rw [← hH1, Array.size_push]
  have e1 : H1[H.size]? = some (arrV cA v.toNatClampNeg (fun _ => .null)) := by rw [← hH1, Array.getElem?_push_size, ← arrV_new]
  have e3 : ∀ q : Nat, q < H.size → H1[q]? = H[q]? := fun q hq => by rw [← hH1, Array.getElem?_push, if_neg (Nat.ne_of_lt hq)]
  refine kk H.size ls hls _ (cb - 1) (sb - v.toNatClampNeg) H1 locs (cells + 1) (slots + v.toNatClampNeg) (hf H.size z1 z2) (zC_new hC e1 rfl ⟨?_, by simp [arrV_size], fun j hj => ?_⟩ e2 e3) (zO_new hO e3) (by omega) (by omega)
  · obtain ⟨-, kA', comp', -, -, -, g4⟩ := zV_RA (zEV hE) (t := 4) rfl (by decide)
    exact Option.some.inj (k1.symm.trans g4)
  · have hj : j < v.toNatClampNeg := hj
    rw [arrV_read _ _ hj]
    rfl
theorem zs_gets (hE : zE x K cc own nm n F L en ret xt) {C nme desc ref : String} {index : Nat} {v : Value} (hz : (C, nme, desc, v) ∈ zST K) (hl : Cond.fieldLink own index ref nme desc ∈ lw_all) (hs : zSm C nme desc ref) (d : decode cc pc = .ok (.getstatic index, 3)) (kk : zS x (pc + 3) lv (v :: st) f) : zS x pc lv st f := by
  obtain ⟨p, l, e, R, s, m, args, below, meth, c, nL, G, enc, Q, X, mc, ms, qs⟩ := x
  have hK := zEK hE
  dsimp only at hK
  subst hK
  intro ls hls h cb sb H locs cells slots hf hC hO h1 h2
  obtain ⟨cf, kf, fi, fd, a, cell, g1, g2, g3, g4, g5, g6, g7, g8⟩ := (zEV hE).2.2.2.2.1 _ hz
  exact W.gets hE.1 hE.2.1 hE.2.2.2.2.1 (zEts hE _ (zq hl)) (zSm_at hs (zEts hE) _ g1) g2 g3 g4 (by rw [hC.2.2 a (Array.getElem?_eq_some_iff.mp g5).1]; exact g5) (fun e => by rw [e] at g6; cases g6) g7 rfl d (kk ls hls h cb sb H locs cells slots hf hC hO h1 h2)
theorem zldcW {p : Program} {l : Launch} {e : Env} {R : Room} {s : State} {m : MethodId} {args : Array Value} {below : List Frame} {meth : Method} {c : Code} {locs : List Loc} {cells slots : Nat} {T : State} (X : Stand p l e R s m args below meth c T locs cells slots) (hexec : p.tables.exec = Jvm.exec) {own text : String} {index : Nat} {a : Addr} (hown : s.vm.findClass own = some m.cls)
    (hconst : (Cond.stringRef own index text).before args s = true) (hev : (Term.string own index).eval args s none [] s = some (.ref a)) {g : JFrame} (hg : g.method = m) (hdg : decode c.code g.pc = .ok (.ldc_w index, 3)) :
    ∀ target, Steps p.tables e below (T.setTop { g with pc := g.pc + 3, stack := .ref a :: g.stack }) target → Steps p.tables e below (T.setTop g) target := by
  obtain ⟨k, cf, i, a', hk, hcf, hcp, -, hr, hev'⟩ := Cond.stringRef_spec hown hconst
  cases hev.symm.trans hev'
  obtain ⟨k', hk', he⟩ := X.warmed.alike.2.2 _ _ hk
  have hr' : k'.resolved[index]? = some (some (.string a)) := by
    rcases X.warmed.entry hk hk' index with h | ⟨h, -⟩
    · rw [h]; exact hr
    · rw [hr] at h; cases h
  intro target hrest
  subst hg
  jvm_step X.here [hexec, hdg, ldc_w.wp_string (e := e) (s := T) (f := g) X.here.top hk' (by rw [he]; exact hcf) hcp hr']
  exact hrest
theorem zs_ldcwS (hE : zE x K cc own nm n F L en ret xt) {index i : Nat} {tx : String} (hz : (own, index, tx, K.1 i) ∈ zSR K) (d : decode cc pc = .ok (.ldc_w index, 3)) (kk : zS x (pc + 3) lv (va_rf (some (K.1 i)) :: st) f) : zS x pc lv st f := by
  obtain ⟨p, l, e, R, s, m, args, below, meth, c, nL, G, enc, Q, X, mc, ms, qs⟩ := x
  have hK := zEK hE
  dsimp only at hK
  subst hK
  intro ls hls h cb sb H locs cells slots hf hC hO h1 h2 T hT X0
  obtain ⟨g1, g2⟩ := (zEV hE).2.2.2.2.2.1 _ hz
  obtain ⟨t, a1, b1⟩ := kk ls hls h cb sb H locs cells slots hf hC hO h1 h2 T hT X0
  exact ⟨t, zldcW X0 hE.1 hE.2.2.2.2.1 g1 g2 (g := F0 m pc ls st) rfl (by rw [hE.2.1]; exact d) t a1, b1⟩
theorem zs_ldc (hE : zE x K cc own nm n F L en ret xt) {index : Nat} {v : Int32} (hw : Cond.constant own index v ∈ lw_all) (d : decode cc pc = .ok (.ldc index, 2)) (kk : zS x (pc + 2) lv (.int v :: st) f) : zS x pc lv st f := by
  have hts := zEts hE
  obtain ⟨p, l, e, R, s, m, args, below, meth, c, nL, G, enc, Q, X, mc, ms, qs⟩ := x
  exact fun ls hls h cb sb H locs cells slots hf hC hO h1 h2 => lv_ldc hE.1 hE.2.1 hE.2.2.2.2.1 (hts _ (zq hw)) d (kk ls hls h cb sb H locs cells slots hf hC hO h1 h2)
theorem zs_ldcM (hE : zE x K cc own nm n F L en ret xt) {index : Nat} (hw : Cond.classLink own index "[Ljava/lang/Object;" ∈ lw_all) (d : decode cc pc = .ok (.ldc index, 2)) (kk : zS x (pc + 2) lv (va_rf (some (K.1 20)) :: st) f) : zS x pc lv st f := by
  have hts := zEts hE
  obtain ⟨p, l, e, R, s, m, args, below, meth, c, nL, G, enc, Q, X, mc, ms, qs⟩ := x
  have hK := zEK hE
  dsimp only at hK
  subst hK
  exact fun ls hls h cb sb H locs cells slots hf hC hO h1 h2 => va_ldcM hE.1 hE.2.1 hE.2.2.2.2.1 (hts _ (zq hw)) (zEV hE).2.2.2.2.2.2.1.1 d (kk ls hls h cb sb H locs cells slots hf hC hO h1 h2)
/-- a checkcast of null or of an object whose class is known -/
theorem zs_cast (hE : zE x K cc own nm n F L en ret xt) {index : Nat} {to : String} {a : Option Nat} {cs : List Nat} (hw : Cond.classLink own index to ∈ lw_all) (hcs : ∀ ci ∈ cs, ∃ r : vw_C, zCL[ci]? = some r ∧ (r.1 = to ∨ Cond.castable r.1 to ∈ zNest)) (d : decode cc pc = .ok (.checkcast index, 3)) (kk : zS x (pc + 3) lv (va_rf a :: st) f) : zS x pc lv (va_rf a :: st) (zcast a cs f) := by
  have hts := zEts hE
  have hV := zEV hE
  obtain ⟨p, l, e, R, s, m, args, below, meth, c, nL, G, enc, Q, X, mc, ms, qs⟩ := x
  intro ls hls h cb sb H locs cells slots hf hC hO h1 h2
  unfold zcast at hf
  cases a with
  | none => exact lv_castN hE.1 hE.2.1 d (kk ls hls h cb sb H locs cells slots hf hC hO h1 h2)
  | some y =>
    dsimp only at hf
    cases hy : h y with
    | none => rw [hy] at hf; exact hf.elim
    | some e0 =>
      rw [hy] at hf
      cases e0 with
      | inl A => exact hf.elim
      | inr o =>
        obtain ⟨cj, fs⟩ := o
        obtain ⟨r, hr, hto⟩ := hcs cj hf.1
        obtain ⟨cell, q1, q2, q3, q4⟩ := zrd hV hC (Or.inl hy)
        obtain ⟨⟨hS, hcl⟩, -⟩ := hV.1 cj r hr
        have hrec : ∃ cell : Cell, H[y]? = some cell ∧ cell.vm.isStatics = false ∧ s.vm.findClass r.1 = some cell.cls := ⟨cell, q1, q3, by rw [q4.1]; exact hcl.1⟩
        rcases hto with hto | hto
        · subst hto
          exact va_castS hE.1 hE.2.1 hE.2.2.2.2.1 (hts _ (zq hw)) hcl hrec d (kk ls hls h cb sb H locs cells slots hf.2 hC hO h1 h2)
        · exact va_castY hE.1 hE.2.1 hE.2.2.2.2.1 (hts _ (zq hw)) (hV.2.2.1 _ hto) hrec d (kk ls hls h cb sb H locs cells slots hf.2 hC hO h1 h2)
theorem zs_castK (hE : zE x K cc own nm n F L en ret xt) {index : Nat} {to : String} {a : Option Nat} {cs : List Nat} (hw : Cond.classLink own index to ∈ lw_all) (hcs : ∀ ci ∈ cs, ∃ r : vw_C, zCL[ci]? = some r ∧ (r.1 = to ∨ Cond.castable r.1 to ∈ zNest)) (d : decode cc pc = .ok (.checkcast index, 3)) (kk : zS x (pc + 3) lv (va_rf a :: st) f) : zS x pc lv (va_rf a :: st) (zcastK K a cs f) := by
  have hts := zEts hE
  have hV := zEV hE
  obtain ⟨p, l, e, R, s, m, args, below, meth, c, nL, G, enc, Q, X, mc, ms, qs⟩ := x
  have hK := zEK hE
  dsimp only at hK
  subst hK
  intro ls hls h cb sb H locs cells slots hf hC hO h1 h2
  obtain ⟨hc, hf⟩ := hf
  obtain ⟨y, cj, fs, ⟨rfl, hy, hcj⟩ | rfl⟩ := hc
  · obtain ⟨r, hr, hto⟩ := hcs cj hcj
    obtain ⟨cell, q1, q2, q3, q4⟩ := zrd hV hC hy
    obtain ⟨⟨hS, hcl⟩, -⟩ := hV.1 cj r hr
    have hrec : ∃ cell : Cell, H[y]? = some cell ∧ cell.vm.isStatics = false ∧ s.vm.findClass r.1 = some cell.cls := ⟨cell, q1, q3, by rw [q4.1]; exact hcl.1⟩
    rcases hto with hto | hto
    · subst hto
      exact va_castS hE.1 hE.2.1 hE.2.2.2.2.1 (hts _ (zq hw)) hcl hrec d (kk ls hls h cb sb H locs cells slots hf hC hO h1 h2)
    · exact va_castY hE.1 hE.2.1 hE.2.2.2.2.1 (hts _ (zq hw)) (hV.2.2.1 _ hto) hrec d (kk ls hls h cb sb H locs cells slots hf hC hO h1 h2)
  · exact lv_castN hE.1 hE.2.1 d (kk ls hls h cb sb H locs cells slots hf hC hO h1 h2)
/-- a checkcast of an array of Objects to its own class -/
theorem zs_castA (hE : zE x K cc own nm n F L en ret xt) {index y : Nat} (hw : Cond.classLink own index "[Ljava/lang/Object;" ∈ lw_all) (d : decode cc pc = .ok (.checkcast index, 3)) (kk : zS x (pc + 3) lv (va_rf (some y) :: st) f) : zS x pc lv (va_rf (some y) :: st) (zlen (some y) 4 (fun _ => f)) := by
  have hts := zEts hE
  have hV := zEV hE
  obtain ⟨p, l, e, R, s, m, args, below, meth, c, nL, G, enc, Q, X, mc, ms, qs⟩ := x
  intro ls hls h cb sb H locs cells slots hf hC hO h1 h2
  unfold zlen at hf
  cases hv : zarr h (some y) 4 with
  | none => rw [hv] at hf; exact hf.elim
  | some r =>
    obtain ⟨y', k, A⟩ := r
    rw [hv] at hf
    obtain ⟨e1, hy⟩ := zarr_spec hv
    cases e1
    obtain ⟨cell, q1, q2, q3, q4⟩ := zrd hV hC (Or.inl hy)
    obtain ⟨-, kA, comp, g1, g2, g3, g4⟩ := zV_RA hV (t := 4) rfl (by decide)
    intro T hT X0
    obtain ⟨vm', X', st'⟩ := X0.checkcastYes hE.1 hE.2.2.2.2.1 (hts _ (zq hw)) (by rw [hT]; exact q1) q3 g4 (by rw [q4.1]; exact va_asg _ _) (g := F0 m pc ls (.ref y :: st)) rfl rfl (by rw [hE.2.1]; exact d)
    obtain ⟨t, a1, b1⟩ := kk ls hls h cb sb H locs cells slots hf hC hO h1 h2 (T.setVm vm') hT X'
    exact ⟨t, st' t a1, b1⟩
end ZR5
