section ZR3
theorem zobj_spec {h : ZH} {a : Option Nat} {ci y : Nat} {fs : List Value} (e : zobj h a ci = some (y, fs)) : a = some y ∧ h y = some (.inr (ci, fs)) := by
  unfold zobj at e
  split at e
  · rename_i x
    split at e
    · rename_i cj gs hx
      split at e
      · rename_i hc
        cases e
        subst hc
        exact ⟨rfl, hx⟩
      · cases e
    · cases e
  · cases e
theorem zfI_spec {h : ZH} {a : Option Nat} {ci k : Nat} {v : Int32} (e : zfI h a ci k = some v) : ∃ (y : Nat) (fs : List Value), a = some y ∧ h y = some (.inr (ci, fs)) ∧ fs[k]? = some (.int v) := by
  unfold zfI at e
  split at e
  · rename_i y fs ho
    obtain ⟨h1, h2⟩ := zobj_spec ho
    split at e
    · rename_i w hw
      cases e
      exact ⟨y, fs, h1, h2, hw⟩
    · cases e
  · cases e
theorem zfR_spec {h : ZH} {a : Option Nat} {ci k : Nat} {v : Option Nat} (e : zfR h a ci k = some v) : ∃ (y : Nat) (fs : List Value), a = some y ∧ h y = some (.inr (ci, fs)) ∧ fs[k]? = some (va_rf v) := by
  unfold zfR at e
  split at e
  · rename_i y fs ho
    obtain ⟨h1, h2⟩ := zobj_spec ho
    split at e
    · rename_i hw
      cases e
      exact ⟨y, fs, h1, h2, hw⟩
    · rename_i w hw
      cases e
      exact ⟨y, fs, h1, h2, hw⟩
    · cases e
  · cases e
theorem zarr_spec {h : ZH} {a : Option Nat} {t y : Nat} {A : vp_A} (e : zarr h a t = some (y, A)) : a = some y ∧ h y = some (.inl (t, A)) := by
  unfold zarr at e
  split at e
  · rename_i x
    split at e
    · rename_i cj gs hx
      split at e
      · rename_i hc
        cases e
        subst hc
        exact ⟨rfl, hx⟩
      · cases e
    · cases e
  · cases e
theorem zarI_spec {h : ZH} {a : Option Nat} {t y n : Nat} {g : Nat → Int32} (e : zarI h a t = some (y, n, g)) : a = some y ∧ h y = some (.inl (t, n, .inl g)) := by
  unfold zarI at e
  split at e
  · rename_i hz
    cases e
    exact zarr_spec hz
  · cases e
theorem zarJ_spec {h : ZH} {a : Option Nat} {t y n : Nat} {g : Nat → Int64} (e : zarJ h a t = some (y, n, g)) : a = some y ∧ h y = some (.inl (t, n, .inr (.inl g))) := by
  unfold zarJ at e
  split at e
  · rename_i hz
    cases e
    exact zarr_spec hz
  · cases e
theorem zarD_spec {h : ZH} {a : Option Nat} {t y n : Nat} {g : Nat → UInt64} (e : zarD h a t = some (y, n, g)) : a = some y ∧ h y = some (.inl (t, n, .inr (.inr (.inr (.inl g))))) := by
  unfold zarD at e
  split at e
  · rename_i hz
    cases e
    exact zarr_spec hz
  · cases e
theorem zarR_spec {h : ZH} {a : Option Nat} {t y n : Nat} {g : Nat → Option Nat} (e : zarR h a t = some (y, n, g)) : a = some y ∧ h y = some (.inl (t, n, .inr (.inr (.inr (.inr g))))) := by
  unfold zarR at e
  split at e
  · rename_i hz
    cases e
    exact zarr_spec hz
  · cases e
/-- a cell that can be read -/
theorem zrd {G : ZG} {s : State} {h : ZH} {H : Heap} (hV : zV G s) (hC : zC G h H) {y : Nat} {e : va_E} (he : h y = some e ∨ G.2.2.2.2 y = some e) : ∃ cell : Cell, H[y]? = some cell ∧ cell.vm ≠ .unknown ∧ cell.vm.isStatics = false ∧ zcell G e cell := by
  rcases he with he | he
  · obtain ⟨-, cell, h1, h2, h3⟩ := hC.1 y e he
    exact ⟨cell, h1, (by rw [h2]; exact fun z => nomatch z), (by rw [h2]; rfl), h3⟩
  · obtain ⟨cell, h1, h2, h3, h4⟩ := hV.2.2.2.2.2.2.2.2 y e he
    exact ⟨cell, by rw [hC.2.2 y (Array.getElem?_eq_some_iff.mp h1).1]; exact h1, h2, h3, h4⟩
theorem znst {v : VmData} (h : v.isStatics = false) : ∀ k, v ≠ .statics k := fun k e => by rw [e] at h; cases h
theorem zC_put {G : ZG} {h : ZH} {H H' : Heap} {a : Nat} {e0 e1 : va_E} {cell : Cell} (hC : zC G h H) (h0 : h a = some e0) (e : H'[a]? = some cell) (hvm : cell.vm = .none) (hz : zcell G e1 cell) (sz : H'.size = H.size) (oq : ∀ q : Nat, q ≠ a → H'[q]? = H[q]?) : zC G (zup h a e1) H' := by
  have ha := (hC.1 a e0 h0).1
  refine ⟨fun b e2 hb => ?_, by rw [sz]; exact hC.2.1, fun q hq => by rw [oq q (by omega)]; exact hC.2.2 q hq⟩
  by_cases hba : b = a
  · subst hba
    rw [zup_s] at hb
    cases hb
    exact ⟨ha, cell, e, hvm, hz⟩
  · rw [zup_n hba] at hb
    obtain ⟨g1, c2, g2, g3⟩ := hC.1 b e2 hb
    exact ⟨g1, c2, by rw [oq b hba]; exact g2, g3⟩
theorem zO_put {G : ZG} {s : State} {qs : List (Nat × Nat)} {H H' : Heap} {locs : List Loc} {a k : Nat} {cell : Cell} {v : Value} (hO : zO G s qs H locs) (ha : zA G a) (h0 : H[a]? = some cell) (e : H'[a]? = some (cell.setSlot k v)) (oq : ∀ q : Nat, q ≠ a → H'[q]? = H[q]?) : zO G s qs H' (locs ++ [⟨a, k⟩]) := by
  refine zO_step hO (fun q ce hq => ?_) (fun q hq => by rw [List.mem_singleton.mp hq]; exact ha)
  by_cases hqa : q = a
  · subst hqa
    cases h0.symm.trans hq
    exact ⟨_, e, rfl, rfl⟩
  · exact ⟨ce, by rw [oq q hqa]; exact hq, rfl, rfl⟩
theorem zC_new {G : ZG} {h : ZH} {H H' : Heap} {e1 : va_E} {cell : Cell} (hC : zC G h H) (e : H'[H.size]? = some cell) (hvm : cell.vm = .none) (hz : zcell G e1 cell) (sz : H'.size = H.size + 1) (oq : ∀ q : Nat, q < H.size → H'[q]? = H[q]?) : zC G (zup h H.size e1) H' := by
  refine ⟨fun b e2 hb => ?_, by rw [sz]; exact Nat.le_succ_of_le hC.2.1, fun q hq => by rw [oq q (Nat.lt_of_lt_of_le hq hC.2.1)]; exact hC.2.2 q hq⟩
  by_cases hba : b = H.size
  · subst hba
    rw [zup_s] at hb
    cases hb
    exact ⟨hC.2.1, cell, e, hvm, hz⟩
  · rw [zup_n hba] at hb
    obtain ⟨g1, c2, g2, g3⟩ := hC.1 b e2 hb
    exact ⟨g1, c2, by rw [oq b (Array.getElem?_eq_some_iff.mp g2).1]; exact g2, g3⟩
theorem zC_fresh {G : ZG} {s : State} {h : ZH} {H : Heap} (hV : zV G s) (hC : zC G h H) : h H.size = none ∧ G.2.2.2.2 H.size = none := by
  refine ⟨?_, ?_⟩
  · cases hh : h H.size with
    | none => rfl
    | some e =>
      obtain ⟨-, c2, g2, -⟩ := hC.1 _ e hh
      have := (Array.getElem?_eq_some_iff.mp g2).1
      omega
  · cases hh : G.2.2.2.2 H.size with
    | none => rfl
    | some e =>
      obtain ⟨c2, g2, -⟩ := hV.2.2.2.2.2.2.2.2 _ e hh
      have := (Array.getElem?_eq_some_iff.mp g2).1
      have := hC.2.1
      omega
theorem zO_new {G : ZG} {s : State} {qs : List (Nat × Nat)} {H H' : Heap} {locs : List Loc} (hO : zO G s qs H locs) (oq : ∀ q : Nat, q < H.size → H'[q]? = H[q]?) : zO G s qs H' locs := by
  have h := zO_step (H' := H') (L := []) hO (fun q ce hq => ⟨ce, by rw [oq q (Array.getElem?_eq_some_iff.mp hq).1]; exact hq, rfl, rfl⟩) (fun _ h => by cases h)
  rw [List.append_nil] at h
  exact h
variable {β : Type} {x : ZX β} {K : ZK} {cc : ByteArray} {own nm : String} {n F L : Nat} {en : β → Option Value} {ret : Option FieldType} {xt : List ExceptionTableEntry} {pc : Nat} {lv lv' : List (Nat × Value)} {st : List Value} {f g : ZP β}
section ZW
variable {p : Program} {l : Launch} {e : Env} {R : Room} {s : State} {m : MethodId} {args : Array Value} {below : List Frame} {meth : Method} {c : Code} {H : Heap} {locs : List Loc} {cells slots : Nat} {Q : State → Prop} {G : ZG} {ls : Array Slot} {rest : List Value}
/-- how a field is linked: as its own class's, an inherited one, a nest mate's -/
def zLk (own : String) (index : Nat) (ref nme desc : String) : Prop := Cond.fieldLink own index ref nme desc ∈ lw_all ∨ ∃ host : String, Cond.fieldLinkNest own index ref nme desc host ∈ zNest
def zSm (o nme desc ref : String) : Prop := o = ref ∨ Cond.sameField ref o nme desc ∈ lw_all
theorem zSm_at {o nme desc ref : String} (h : zSm o nme desc ref) (hts : ∀ w ∈ zAll, w.before args s = true) : ∀ z, s.fieldFound? o nme desc = some z → s.fieldFound? ref nme desc = some z := by
  rcases h with h | h
  · subst h; exact fun _ h => h
  · exact u_same (hts _ (zq h))
theorem zw_get (hx : p.tables.exec = Jvm.exec) (hb : c.code = cc) (hown : s.vm.findClass own = some m.cls) (hts : ∀ w ∈ zAll, w.before args s = true) (hV : zV G s) {ci k N index a : Nat} {C ref : String} {T : u_T} {fs : List Value} {v : Value} {cell : Cell}
    (hc : zCL[ci]? = some (C, T, N)) (hk : k < N) (hin : ∀ w ∈ u_ws C T N, w ∈ lw_all) (hl : zLk own index ref (T k).2.1 (T k).2.2.1) (hs : zSm (T k).1 (T k).2.1 (T k).2.2.1 ref)
    (hcell : H[a]? = some cell) (hkn : cell.vm ≠ .unknown) (hz : zcell G (.inr (ci, fs)) cell) (hv : fs[k]? = some v) (d : decode cc pc = .ok (.getfield index, 3))
    (kk : W p l e R s m args below meth c H locs cells slots Q (F0 m (pc + 3) ls (v :: rest))) : W p l e R s m args below meth c H locs cells slots Q (F0 m pc ls (.ref a :: rest)) := by
  obtain ⟨q2, r, h1, q4⟩ := hz
  have hr : r = (C, T, N) := Option.some.inj (h1.symm.trans hc)
  subst hr
  obtain ⟨⟨hS, hfc, kC, hkC, hkind⟩, -⟩ := hV.1 ci _ hc
  obtain ⟨cf, kf, fi, fd, hi, hsl⟩ := hS k hk
  have hst := (u_facts hfc hkC (u_lays hts (fun w h => zq (hin w h)) hk) hi).1
  have hslot : cell.slots[fd.slot]? = some v := by
    rw [hsl, q4 k hk]
    simp [vp_V, hv]
  rcases hl with hl | ⟨host, hl⟩
  · exact W.getf hx hb hown (hts _ (zq hl)) (zSm_at hs hts _ hi) hst hcell hkn hslot rfl rfl d kk
  · exact va_Wgetf hx hb hown (va_Nw.use rfl (hV.2.2.1 _ hl)) (zSm_at hs hts _ hi) hst hcell hkn hslot rfl rfl d kk
/-- a put: final only in a constructor of the class that declares the field -/
def zFn (own nm : String) (q : String × String × String × Bool) : Prop := q.2.2.2 = false ∨ (q.2.2.2 = true ∧ nm = "<init>" ∧ q.1 = own)
theorem zw_put (hx : p.tables.exec = Jvm.exec) (hb : c.code = cc) (hown : s.vm.findClass own = some m.cls) (hts : ∀ w ∈ zAll, w.before args s = true) (hV : zV G s) (hnm : meth.name = nm) {ci k N index a : Nat} {C ref : String} {T : u_T} {fs : List Value} {v : Value} {ty : FieldType} {cell : Cell}
    (hc : zCL[ci]? = some (C, T, N)) (hk : k < N) (hin : ∀ w ∈ u_ws C T N, w ∈ lw_all) (hl : zLk own index ref (T k).2.1 (T k).2.2.1) (hs : zSm (T k).1 (T k).2.1 (T k).2.2.1 ref) (hfin : zFn own nm (T k)) (hlf : (T k).2.2.2 = true → Cond.fieldLink own index ref (T k).2.1 (T k).2.2.1 ∈ lw_all) (hty : parseFieldDescriptor (T k).2.2.1 = some ty) (hn : narrow ty v = v) (hfit : fits ty v = true)
    (hcell : H[a]? = some cell) (hvm : cell.vm = .none) (hz : zcell G (.inr (ci, fs)) cell) (hlen : k < fs.length) (d : decode cc pc = .ok (.putfield index, 3))
    (kk : ∀ (H1 : Heap) (i : Nat), H1[a]? = some (cell.setSlot i v) → H1.size = H.size → (∀ q, q ≠ a → H1[q]? = H[q]?) → zcell G (.inr (ci, fs.set k v)) (cell.setSlot i v) → W p l e R s m args below meth c H1 (locs ++ [⟨a, i⟩]) cells slots Q (F0 m (pc + 3) ls rest)) : W p l e R s m args below meth c H locs cells slots Q (F0 m pc ls (v :: .ref a :: rest)) := by
  have hz0 := hz
  obtain ⟨q2, r, h1, q4⟩ := hz
  have hr : r = (C, T, N) := Option.some.inj (h1.symm.trans hc)
  subst hr
  obtain ⟨⟨hS, hfc, kC, hkC, hkind⟩, hap⟩ := hV.1 ci _ hc
  obtain ⟨cf, kf, fi, fd, hi, hsl⟩ := hS k hk
  have hlays := u_lays hts (fun w h => zq (hin w h)) hk
  have hst := (u_facts hfc hkC hlays hi).1
  have hlt : fd.slot < cell.slots.size := by rw [hsl]; exact k2_hasslot (q4 k hk)
  have hcls : cell.cls = G.1.1 ci := q2
  have hnew : zcell G (.inr (ci, fs.set k v)) (cell.setSlot fd.slot v) := by
    refine ⟨q2, _, hc, fun j hj => ?_⟩
    rw [hsl, t_set q4 hap hk v j hj, vp_updV_set hlen v j]
  have hlay := hts _ (zq (hin _ (u_in_lay hk)))
  unfold u_lay at hlay
  rcases hfin with hf | ⟨hf, hnm2, hdecl⟩
  · rw [if_neg (by rw [hf]; decide)] at hlay
    have h6 := u_store hfc hkC hkind hlay hi hty hn hfit
    rcases hl with hl | ⟨host, hl⟩
    · exact W.putK hx hb (f := fd) ⟨hown, hts _ (zq hl), ⟨_, _, _, zSm_at hs hts _ hi⟩, hst⟩ (by rw [hcls]; exact h6) hcell hvm hlt rfl rfl d fun H' e1 e2 e3 => kk H' _ e1 e2 e3 hnew
    · exact va_WputK hx hb (f := fd) hown (va_Nw.use rfl (hV.2.2.1 _ hl)) (zSm_at hs hts _ hi) hst (by rw [hcls]; exact h6) hcell hvm hlt rfl rfl d fun H' e1 e2 e3 => kk H' _ e1 e2 e3 hnew
  · rw [if_pos hf] at hlay
    have hcf : m.cls = cf := by
      obtain ⟨_, _, c', _, _, _, -, -, hf', -, -, -, hown2, -⟩ := Cond.laysFinal_spec hlay
      have e1 : c' = cf := by have := hi.symm.trans hf'; simp at this; exact this.1.symm
      rw [hdecl] at hown2
      rw [← e1]; exact Option.some.inj (hown.symm.trans hown2)
    have h6 := u_fits hfc hkC hkind (Or.inr hlay) hi hty hn hfit
    exact W.putFinK hx hb hown (hts _ (zq (hlf hf))) (zSm_at hs hts _ hi) hst hcf (hnm.trans hnm2) (by rw [hcls]; exact h6) hcell hvm hlt rfl rfl d fun H' e1 e2 e3 => kk H' _ e1 e2 e3 hnew
end ZW
theorem zref_ty {ty : FieldType} {v : Option Nat} (h : (∃ C, ty = .object C) ∨ ∃ t, ty = .array t) : narrow ty (va_rf v) = va_rf v ∧ fits ty (va_rf v) = true := by
  rcases h with ⟨C, rfl⟩ | ⟨t, rfl⟩ <;> cases v <;> exact ⟨rfl, rfl⟩
theorem zs_getI (hE : zE x K cc own nm n F L en ret xt) {ci k N index : Nat} {C ref : String} {T : u_T} {a : Option Nat} {f : Int32 → ZP β} (hc : zCL[ci]? = some (C, T, N)) (hk : k < N) (hin : ∀ w ∈ u_ws C T N, w ∈ lw_all) (hl : zLk own index ref (T k).2.1 (T k).2.2.1) (hs : zSm (T k).1 (T k).2.1 (T k).2.2.1 ref) (d : decode cc pc = .ok (.getfield index, 3))
    (kk : ∀ v : Int32, zS x (pc + 3) lv (.int v :: st) (f v)) : zS x pc lv (va_rf a :: st) (zgetI a ci k f) := by
  obtain ⟨p, l, e, R, s, m, args, below, meth, c, nL, G, enc, Q, X, mc, ms, qs⟩ := x
  intro ls hls h cb sb H locs cells slots hf hC hO h1 h2
  unfold zgetI at hf
  cases hv : zfI h a ci k with
  | none => rw [hv] at hf; exact hf.elim
  | some v =>
    rw [hv] at hf
    obtain ⟨y, fs, rfl, hy, hfs⟩ := zfI_spec hv
    obtain ⟨cell, q1, q2, q3, q4⟩ := zrd hE.2.2.2.2.2.2.1 hC (Or.inl hy)
    exact zw_get hE.1 hE.2.1 hE.2.2.2.2.1 hE.2.2.2.2.2.1 hE.2.2.2.2.2.2.1 hc hk hin hl hs q1 q2 q4 hfs d (kk v ls hls h cb sb H locs cells slots hf hC hO h1 h2)
theorem zs_getR (hE : zE x K cc own nm n F L en ret xt) {ci k N index : Nat} {C ref : String} {T : u_T} {a : Option Nat} {f : Option Nat → ZP β} (hc : zCL[ci]? = some (C, T, N)) (hk : k < N) (hin : ∀ w ∈ u_ws C T N, w ∈ lw_all) (hl : zLk own index ref (T k).2.1 (T k).2.2.1) (hs : zSm (T k).1 (T k).2.1 (T k).2.2.1 ref) (d : decode cc pc = .ok (.getfield index, 3))
    (kk : ∀ v : Option Nat, zS x (pc + 3) lv (va_rf v :: st) (f v)) : zS x pc lv (va_rf a :: st) (zgetR a ci k f) := by
  obtain ⟨p, l, e, R, s, m, args, below, meth, c, nL, G, enc, Q, X, mc, ms, qs⟩ := x
  intro ls hls h cb sb H locs cells slots hf hC hO h1 h2
  unfold zgetR at hf
  cases hv : zfR h a ci k with
  | none => rw [hv] at hf; exact hf.elim
  | some v =>
    rw [hv] at hf
    obtain ⟨y, fs, rfl, hy, hfs⟩ := zfR_spec hv
    obtain ⟨cell, q1, q2, q3, q4⟩ := zrd hE.2.2.2.2.2.2.1 hC (Or.inl hy)
    exact zw_get hE.1 hE.2.1 hE.2.2.2.2.1 hE.2.2.2.2.2.1 hE.2.2.2.2.2.2.1 hc hk hin hl hs q1 q2 q4 hfs d (kk v ls hls h cb sb H locs cells slots hf hC hO h1 h2)
theorem zs_getIK (hE : zE x K cc own nm n F L en ret xt) {ci k N index : Nat} {C ref : String} {T : u_T} {a : Option Nat} {f : Int32 → ZP β} (hc : zCL[ci]? = some (C, T, N)) (hk : k < N) (hin : ∀ w ∈ u_ws C T N, w ∈ lw_all) (hl : zLk own index ref (T k).2.1 (T k).2.2.1) (hs : zSm (T k).1 (T k).2.1 (T k).2.2.1 ref) (d : decode cc pc = .ok (.getfield index, 3))
    (kk : ∀ v : Int32, zS x (pc + 3) lv (.int v :: st) (f v)) : zS x pc lv (va_rf a :: st) (zgetIK K a ci k f) := by
  obtain ⟨p, l, e, R, s, m, args, below, meth, c, nL, G, enc, Q, X, mc, ms, qs⟩ := x
  have hK : G.2.2.2 = K := hE.2.2.2.2.2.2.2.2.2.2.2.2.2.1
  subst hK
  intro ls hls h cb sb H locs cells slots hf hC hO h1 h2
  obtain ⟨v, hv, hf⟩ := hf
  have key : ∃ (y : Nat) (fs : List Value), a = some y ∧ (h y = some (.inr (ci, fs)) ∨ G.2.2.2.2 y = some (.inr (ci, fs))) ∧ fs[k]? = some (.int v) := by
    rcases hv with hv | hv
    · obtain ⟨y, fs, g1, g2, g3⟩ := zfI_spec hv
      exact ⟨y, fs, g1, Or.inl g2, g3⟩
    · obtain ⟨y, fs, g1, g2, g3⟩ := zfI_spec hv
      exact ⟨y, fs, g1, Or.inr g2, g3⟩
  obtain ⟨y, fs, rfl, hy, hfs⟩ := key
  obtain ⟨cell, q1, q2, q3, q4⟩ := zrd hE.2.2.2.2.2.2.1 hC hy
  exact zw_get hE.1 hE.2.1 hE.2.2.2.2.1 hE.2.2.2.2.2.1 hE.2.2.2.2.2.2.1 hc hk hin hl hs q1 q2 q4 hfs d (kk v ls hls h cb sb H locs cells slots hf hC hO h1 h2)
theorem zs_getRK (hE : zE x K cc own nm n F L en ret xt) {ci k N index : Nat} {C ref : String} {T : u_T} {a : Option Nat} {f : Option Nat → ZP β} (hc : zCL[ci]? = some (C, T, N)) (hk : k < N) (hin : ∀ w ∈ u_ws C T N, w ∈ lw_all) (hl : zLk own index ref (T k).2.1 (T k).2.2.1) (hs : zSm (T k).1 (T k).2.1 (T k).2.2.1 ref) (d : decode cc pc = .ok (.getfield index, 3))
    (kk : ∀ v : Option Nat, zS x (pc + 3) lv (va_rf v :: st) (f v)) : zS x pc lv (va_rf a :: st) (zgetRK K a ci k f) := by
  obtain ⟨p, l, e, R, s, m, args, below, meth, c, nL, G, enc, Q, X, mc, ms, qs⟩ := x
  have hK : G.2.2.2 = K := hE.2.2.2.2.2.2.2.2.2.2.2.2.2.1
  subst hK
  intro ls hls h cb sb H locs cells slots hf hC hO h1 h2
  obtain ⟨v, hv, hf⟩ := hf
  have key : ∃ (y : Nat) (fs : List Value), a = some y ∧ (h y = some (.inr (ci, fs)) ∨ G.2.2.2.2 y = some (.inr (ci, fs))) ∧ fs[k]? = some (va_rf v) := by
    rcases hv with hv | hv
    · obtain ⟨y, fs, g1, g2, g3⟩ := zfR_spec hv
      exact ⟨y, fs, g1, Or.inl g2, g3⟩
    · obtain ⟨y, fs, g1, g2, g3⟩ := zfR_spec hv
      exact ⟨y, fs, g1, Or.inr g2, g3⟩
  obtain ⟨y, fs, rfl, hy, hfs⟩ := key
  obtain ⟨cell, q1, q2, q3, q4⟩ := zrd hE.2.2.2.2.2.2.1 hC hy
  exact zw_get hE.1 hE.2.1 hE.2.2.2.2.1 hE.2.2.2.2.2.1 hE.2.2.2.2.2.2.1 hc hk hin hl hs q1 q2 q4 hfs d (kk v ls hls h cb sb H locs cells slots hf hC hO h1 h2)
theorem zs_putI (hE : zE x K cc own nm n F L en ret xt) {ci k N index : Nat} {C ref : String} {T : u_T} {a : Option Nat} {v : Int32} (hc : zCL[ci]? = some (C, T, N)) (hk : k < N) (hin : ∀ w ∈ u_ws C T N, w ∈ lw_all) (hl : zLk own index ref (T k).2.1 (T k).2.2.1) (hs : zSm (T k).1 (T k).2.1 (T k).2.2.1 ref) (hfin : zFn own nm (T k)) (hlf : (T k).2.2.2 = true → Cond.fieldLink own index ref (T k).2.1 (T k).2.2.1 ∈ lw_all) (hty : parseFieldDescriptor (T k).2.2.1 = some .int) (d : decode cc pc = .ok (.putfield index, 3))
    (kk : zS x (pc + 3) lv st f) : zS x pc lv (.int v :: va_rf a :: st) (zputI a ci k v f) := by
  obtain ⟨p, l, e, R, s, m, args, below, meth, c, nL, G, enc, Q, X, mc, ms, qs⟩ := x
  intro ls hls h cb sb H locs cells slots hf hC hO h1 h2
  unfold zputI at hf
  cases hv : zobj h a ci with
  | none => rw [hv] at hf; exact hf.elim
  | some yf =>
    obtain ⟨y, fs⟩ := yf
    rw [hv] at hf
    obtain ⟨rfl, hy⟩ := zobj_spec hv
    obtain ⟨hA, cell, q1, q2, q4⟩ := hC.1 y _ hy
    exact zw_put hE.1 hE.2.1 hE.2.2.2.2.1 hE.2.2.2.2.2.1 hE.2.2.2.2.2.2.1 hE.2.2.2.2.2.2.2.2.2.2.2.2.2.2.2.2.1 hc hk hin hl hs hfin hlf hty rfl rfl q1 q2 q4 hf.1 d fun H1 i e1 e2 e3 e4 => kk ls hls _ cb sb H1 _ cells slots hf.2 (zC_put hC hy e1 q2 e4 e2 e3) (zO_put hO hA q1 e1 e3) h1 h2
theorem zs_putT (hE : zE x K cc own nm n F L en ret xt) {ci k N index : Nat} {C ref : String} {T : u_T} {a : Option Nat} {v : Int32} {ty : FieldType} (hc : zCL[ci]? = some (C, T, N)) (hk : k < N) (hin : ∀ w ∈ u_ws C T N, w ∈ lw_all) (hl : zLk own index ref (T k).2.1 (T k).2.2.1) (hs : zSm (T k).1 (T k).2.1 (T k).2.2.1 ref) (hfin : zFn own nm (T k)) (hlf : (T k).2.2.2 = true → Cond.fieldLink own index ref (T k).2.1 (T k).2.2.1 ∈ lw_all) (hty : parseFieldDescriptor (T k).2.2.1 = some ty) (d : decode cc pc = .ok (.putfield index, 3))
    (kk : zS x (pc + 3) lv st f) : zS x pc lv (.int v :: va_rf a :: st) (zputT ty a ci k v f) := by
  obtain ⟨p, l, e, R, s, m, args, below, meth, c, nL, G, enc, Q, X, mc, ms, qs⟩ := x
  intro ls hls h cb sb H locs cells slots hf hC hO h1 h2
  unfold zputT at hf
  cases hv : zobj h a ci with
  | none => rw [hv] at hf; exact hf.elim
  | some yf =>
    obtain ⟨y, fs⟩ := yf
    rw [hv] at hf
    obtain ⟨rfl, hy⟩ := zobj_spec hv
    obtain ⟨hA, cell, q1, q2, q4⟩ := hC.1 y _ hy
    exact zw_put hE.1 hE.2.1 hE.2.2.2.2.1 hE.2.2.2.2.2.1 hE.2.2.2.2.2.2.1 hE.2.2.2.2.2.2.2.2.2.2.2.2.2.2.2.2.1 hc hk hin hl hs hfin hlf hty hf.1.1 hf.1.2 q1 q2 q4 hf.2.1 d fun H1 i e1 e2 e3 e4 => kk ls hls _ cb sb H1 _ cells slots hf.2.2 (zC_put hC hy e1 q2 e4 e2 e3) (zO_put hO hA q1 e1 e3) h1 h2
theorem zs_putR (hE : zE x K cc own nm n F L en ret xt) {ci k N index : Nat} {C ref : String} {T : u_T} {a v : Option Nat} {ty : FieldType} (hc : zCL[ci]? = some (C, T, N)) (hk : k < N) (hin : ∀ w ∈ u_ws C T N, w ∈ lw_all) (hl : zLk own index ref (T k).2.1 (T k).2.2.1) (hs : zSm (T k).1 (T k).2.1 (T k).2.2.1 ref) (hfin : zFn own nm (T k)) (hlf : (T k).2.2.2 = true → Cond.fieldLink own index ref (T k).2.1 (T k).2.2.1 ∈ lw_all) (hty : parseFieldDescriptor (T k).2.2.1 = some ty) (hrt : (∃ C, ty = .object C) ∨ ∃ t, ty = .array t) (d : decode cc pc = .ok (.putfield index, 3))
    (kk : zS x (pc + 3) lv st f) : zS x pc lv (va_rf v :: va_rf a :: st) (zputR a ci k v f) := by
  obtain ⟨p, l, e, R, s, m, args, below, meth, c, nL, G, enc, Q, X, mc, ms, qs⟩ := x
  intro ls hls h cb sb H locs cells slots hf hC hO h1 h2
  unfold zputR at hf
  cases hv : zobj h a ci with
  | none => rw [hv] at hf; exact hf.elim
  | some yf =>
    obtain ⟨y, fs⟩ := yf
    rw [hv] at hf
    obtain ⟨rfl, hy⟩ := zobj_spec hv
    obtain ⟨hA, cell, q1, q2, q4⟩ := hC.1 y _ hy
    exact zw_put hE.1 hE.2.1 hE.2.2.2.2.1 hE.2.2.2.2.2.1 hE.2.2.2.2.2.2.1 hE.2.2.2.2.2.2.2.2.2.2.2.2.2.2.2.2.1 hc hk hin hl hs hfin hlf hty (zref_ty hrt).1 (zref_ty hrt).2 q1 q2 q4 hf.1 d fun H1 i e1 e2 e3 e4 => kk ls hls _ cb sb H1 _ cells slots hf.2 (zC_put hC hy e1 q2 e4 e2 e3) (zO_put hO hA q1 e1 e3) h1 h2
theorem zs_new (hE : zE x K cc own nm n F L en ret xt) {ci N index : Nat} {C : String} {T : u_T} {fs : List Value} {f : Nat → ZP β} (hc : zCL[ci]? = some (C, T, N)) (hin : ∀ w ∈ u_ws C T N, w ∈ lw_all) (ty : Nat → FieldType) (hty : ∀ k, k < N → parseFieldDescriptor (T k).2.2.1 = some (ty k)) (hcl : Cond.classLink own index C ∈ lw_all) (hins : Cond.instantiable C N ∈ lw_all) (hini : Cond.initialized C ∈ lw_all) (hfs : ∀ j, j < N → defaultValue (ty j) = vp_V fs j) (d : decode cc pc = .ok (.new index, 3))
    (kk : ∀ q : Nat, zS x (pc + 3) lv (va_rf (some q) :: st) (f q)) : zS x pc lv st (znew K ci N fs f) := by
  obtain ⟨p, l, e, R, s, m, args, below, meth, c, nL, G, enc, Q, X, mc, ms, qs⟩ := x
  have hK : G.2.2.2 = K := hE.2.2.2.2.2.2.2.2.2.2.2.2.2.1
  subst hK
  intro ls hls h cb sb H locs cells slots hf hC hO h1 h2
  obtain ⟨hf1, hf2, hf⟩ := hf
  obtain ⟨hKn, -⟩ := hE.2.2.2.2.2.2.1.1 ci _ hc
  have hts := hE.2.2.2.2.2.1
  have hRc : R.cells = mc := hE.2.2.2.2.2.2.2.2.2.2.2.1
  have hRs : R.slots = ms := hE.2.2.2.2.2.2.2.2.2.2.2.2.1
  obtain ⟨z1, z2⟩ := zC_fresh hE.2.2.2.2.2.2.1 hC
  refine W.newcK hE.1 hE.2.1 hE.2.2.2.2.1 (hts _ (zq hcl)) (hts _ (zq hins)) (hts _ (zq hini)) rfl d (by omega) (by omega) hKn.2.1 rfl fun H1 kC hkC e1 e2 e3 => ?_
  have hbo := u_born ty hts (fun w h => zq (hin w h)) hKn hkC e1 hty
  obtain ⟨cell, b1, b2, b3, b4⟩ := hbo
  refine kk H.size ls hls _ (cb - 1) (sb - N) H1 locs (cells + 1) (slots + N) (hf H.size z1 z2) (zC_new hC b1 b3 ⟨b2, _, hc, fun k hk => ?_⟩ e2 e3) (zO_new hO e3) (by omega) (by omega)
  rw [b4 k hk]
  exact congrArg some (hfs k hk)
end ZR3
