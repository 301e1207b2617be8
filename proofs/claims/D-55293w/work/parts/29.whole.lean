/-! ===== THE CLAIM, out of what the P-layer shows of the law (began as the kit's skeleton) ===== -/
def R_law : String := "TokenRingLaw"
def lw_P (b : Addr) (xs : List Int32) (args : Array Value) (s : State) : Prop := args = #[.ref b] ∧ s.IntsAt b xs ∧ xs.length ≤ 120 ∧ (Jvm.Cond.and given_1 narrow_1).before args s = true
def lw_Q (_ : Array Value) (s : State) (o : Outcome) (t : State) : Prop := o = .returned (some (.int 1)) ∧ Framed s o t [] 1200144 5496250
def lw_Z (below : List Frame) (a : Array Value) (s : State) : State → Prop := fun t => ∃ o, t.status = .running ∧ Ended t below o ∧ lw_Q a s o t
def lw_At (p : Program) (s : State) (m : MethodId) (meth : Method) (c : Code) (b L : Nat) (xs : Nat → Int32) : Prop :=
  p.tables.exec = Jvm.exec ∧ c.code = code ∧ meth.sig.returnType = ret ∧ c.maxLocals = 9 ∧ s.vm.findClass R_law = some m.cls ∧ (∀ w ∈ lw_tbl, w.before #[Value.ref b] s = true) ∧ va_X b L xs s s.heap ∧ b < s.heap.size ∧ meth.locks = false ∧ (Jvm.Cond.and given_1 narrow_1).before #[Value.ref b] s = true ∧ meth.name = "law" ∧ c.exceptionTable.toList = []
theorem zsbn_drop {s t : State} {L : List Loc} {k n : Nat} (h : s.sameButNew t L k n) (hL : ∀ q ∈ L, s.heap.size ≤ q.base) : s.sameButNew t [] k n := by
  obtain ⟨h1, h2, h3, h4, h5, h6⟩ := h
  refine ⟨h1, h2, h3, h4, h5, fun a c ha => ?_⟩
  obtain ⟨c', g1, g2, g3, g4⟩ := h6 a c ha
  refine ⟨c', g1, g2, g3, fun i _ => g4 i (fun hm => ?_)⟩
  have h7 : s.heap.size ≤ a := hL _ hm
  have hlt := (Array.getElem?_eq_some_iff.mp ha).1
  omega
/-- what the P-layer owes -/
def zOwed : Prop := ∀ (K : ZK) (b L : Nat) (xs : Nat → Int32), L ≤ 120 → zKok K b L xs → s_X0_law K (some b) (fun _ => none) 1200144 5496250 (fun v _ => v = 1) (fun _ _ => False)
theorem z_all_start {s : State} {args : Array Value} (hts : ∀ w ∈ lw_tbl, w.before args s = true) : ∀ w ∈ zAll, w.before args s = true := by
  intro w hw
  rcases List.mem_append.mp hw with h | h
  · obtain ⟨y, hy, rfl⟩ := List.mem_map.mp h
    revert y
    exact zhl_cons (fun _ _ => z_sel_priv (z := ⟨"java/lang/AbstractStringBuilder", "isLatin1", "()Z"⟩) (by decide) rfl ⟨_, hts _ (lw_all_tbl q727)⟩ (hts _ q1142) (hts _ (lw_all_tbl q1143))) (zhl_cons (fun _ _ => z_sel_priv (z := ⟨"java/lang/AbstractStringBuilder", "isLatin1", "()Z"⟩) (by decide) rfl ⟨_, hts _ (lw_all_tbl q727)⟩ (hts _ q1146) (hts _ (lw_all_tbl q1147))) (zhl_cons (fun _ _ => z_sel_priv (z := ⟨"java/lang/AbstractStringBuilder", "isLatin1", "()Z"⟩) (by decide) rfl ⟨_, hts _ (lw_all_tbl q727)⟩ (hts _ q1191) (hts _ (lw_all_tbl q1192))) (zhl_cons (fun _ _ => z_sel_priv (z := ⟨"java/lang/AbstractStringBuilder", "isLatin1", "()Z"⟩) (by decide) rfl ⟨_, hts _ (lw_all_tbl q727)⟩ (hts _ q1195) (hts _ (lw_all_tbl q1196))) zhl_nil)))
  · exact hts w (lw_all_tbl h)
theorem whole_start (hp : zOwed) {p : Program} {e : Env} {s : State} {m : MethodId} {below : List Frame} {meth : Method} {c : Code} (l : Launch) (hflags : l.flags = flags0) {b L : Nat} {xs : Nat → Int32} (hL : L ≤ 120) (C0 : lw_At p s m meth c b L xs) : W p l e room_1 s m #[Value.ref b] below meth c s.heap [] 0 0 (lw_Z below #[Value.ref b] s) (entryFrame m ([Value.ref b] : List Value).toArray 9) := by
  obtain ⟨hx, hb, hr, hml, hown, hts, hX, hbl, hlk, hg, hnm, hxt⟩ := C0
  obtain ⟨G, hV, hG, hK⟩ := z_start hts hg hX
  have hst : l.stackTraces = false := by
    simp [Launch.stackTraces, hflags, flags0]
  have hE : zE (p, l, e, room_1, s, m, #[Value.ref b], below, meth, c, 9, G, encI, (fun (v : Int32) (_ : ZH) => v = 1), (fun _ _ => False), 1200144, 5496250, []) G.2.2.2 cL_law RX0 "law" 9 8192 104096 encI (some .boolean) [] := ⟨hx, hb, hml, rfl, hown, z_all_start hts, hV, hlk, hst, rfl, rfl, rfl, rfl, rfl, rfl, hr, hnm, hxt⟩
  have key := sm_X0_law hE (some b)
  have hls := lv_entry [Value.ref b] (n := 9) (by simp [zsl_nil, zsl_r])
  rw [lg_entry_eq]
  have hC : zC G (fun _ => none) s.heap := ⟨fun a e0 h => (by cases h), by rw [hG]; exact Nat.le_refl _, fun q _ => by rw [hG]⟩
  have hO : zO G s [] s.heap [] := ⟨zExt.rf, (fun _ h => by cases h), ⟨by rw [hG]; exact Nat.le_refl _, fun q _ => by rw [hG]⟩, fun _ h => by cases h⟩
  have hW := key _ hls (fun _ => none) 1200144 5496250 s.heap [] 0 0 (hp G.2.2.2 b L xs hL hK) hC hO (by decide) (by decide)
  intro T hT X
  obtain ⟨t, a1, o, b1, b2, hq⟩ := hW T hT X
  rcases hq with ⟨⟨v, h, hv, hQ, -, -⟩, L', ⟨-, hW', hsm⟩, hL'⟩ | ⟨q, -, E, ce, L', ⟨ci, h, -, -, hX', -⟩, -⟩
  · have hv1 : o = .returned (some (.int 1)) := by
      rw [hv]
      have hQ : v = 1 := hQ
      rw [hQ]
    exact ⟨t, a1, o, b1, b2, hv1, ⟨_, hv⟩, hW', zsbn_drop hsm fun q hq => by have := hL' q hq; unfold zA at this; rw [hG] at this; exact this⟩
  · exact hX'.elim
set_option maxHeartbeats 4000000 in
theorem lw_walk (hp : zOwed) (l : Launch) (hflags : l.flags = flags0) (b : Addr) (xs : List Int32) : MetFree l x (headSpec (Jvm.Cond.code x code maxLocals ret :: tables_1) room_1) (lw_P b xs) (fun _ _ _ _ _ => True) lw_Q := by
  refine MetFree.of_bodyS (code := code) (maxLocals := maxLocals) (ret := ret) (by decide) ?_ ?_
  · intro args s m h hn
    obtain ⟨meth, c, h1, h2, h3, h4, h5, h6, -, -⟩ := Cond.code_spec hn (atoms_spec (ws := Jvm.Cond.code x code maxLocals ret :: tables_1) h _ List.mem_cons_self)
    exact ⟨meth, c, h1, h2, h3, h4, h5, h6⟩
  · intro p e s m args below meth c s₁ B hml0 hP _
    obtain ⟨rfl, hx, hbd, hgv⟩ := hP
    obtain ⟨scr, harrAt, hlist, hof, hsmall⟩ := hx
    obtain ⟨hcb, hkn, -, -⟩ := State.arrayAt?_spec harrAt
    have hown : s.vm.findClass R_law = some m.cls := findClass_of_methodNamed B.named
    have hts0 : ∀ c ∈ (Jvm.Cond.code x code maxLocals ret :: tables_1), c.before #[Value.ref b] s = true := atoms_spec (ws := Jvm.Cond.code x code maxLocals ret :: tables_1) B.pre
    have hts : ∀ w ∈ lw_tbl, w.before #[Value.ref b] s = true := k2_hts_sels lw_privs (fun w hw => hts0 w (List.mem_cons_of_mem _ hw)) lw_privs_ok
    have hml : c.maxLocals = 9 := B.maxLocals_eq (hts0 _ List.mem_cons_self)
    have X₀ : Stand p l e room_1 s m #[Value.ref b] below meth c s₁ [] 0 0 := Stand.of_body B
    have hh0 : s₁.heap = s.heap := by rw [B.state]; rfl
    have hsz : scr.slots.size = xs.length := by rw [← Array.length_toList, hlist, List.length_map]
    have hval : ∀ j : Nat, j < xs.length → scr.slots[j]? = some (.int (xs.getD j 0)) := fun j hj => by
      rw [← Array.getElem?_toList, hlist]
      simp [hj]
    have hbl : b < s.heap.size := (Array.getElem?_eq_some_iff.mp hcb).1
    have hX : va_X b xs.length (fun j => xs.getD j 0) s s.heap := ⟨scr, hcb, hof, hkn, hsz, hval⟩
    have hxt : c.exceptionTable.toList = [] := by
      obtain ⟨meth9, c9, h1, h2, -, -, -, -, h7, -⟩ := Cond.code_spec B.named (atoms_spec (ws := Jvm.Cond.code x code maxLocals ret :: tables_1) B.pre _ List.mem_cons_self)
      cases Option.some.inj (h1.symm.trans B.method)
      cases Option.some.inj (h2.symm.trans (Stand.of_body B).code)
      rw [Array.isEmpty_iff.mp h7]
    have K : W p l e room_1 s m #[Value.ref b] below meth c s₁.heap [] 0 0 (lw_Z below #[Value.ref b] s) (entryFrame m ([Value.ref b] : List Value).toArray 9) := by
      rw [hh0]
      exact whole_start hp l hflags hbd ⟨B.exec, B.bytes, B.returns, hml, hown, hts, hX, hbl, B.notSynchronized, hgv, (name_of_methodNamed B.named B.method).1, hxt⟩
    obtain ⟨t, a1, o, b1, b2, b3⟩ := K s₁ rfl X₀
    exact ⟨t, o, a1, b1, b2, b3⟩
theorem lw_pre_spec {args : Array Value} {s : State} (h : (Jvm.Cond.and given_1 narrow_1).before args s = true) (hr : rest_1_c.before args s = true) : ∃ (b : Addr) (xs : List Int32), lw_P b xs args s := by
  have hs := flat_of_before _ h
  have hq := flat_of_before _ hr
  have hc : (Cond.count 1).before args s = true := hs _ (by decide +kernel)
  have harr : (Cond.arrayOf (.arg 0) .int).before args s = true := hs _ (by decide +kernel)
  have hle : (Cond.le (.length (.arg 0)) (.int 120)).before args s = true := hs _ (by decide +kernel)
  have hlen : (Cond.isInt (.length (.arg 0))).before args s = true := hq _ (by decide +kernel)
  have hall : (Cond.all (.arg 0) (.isInt (.elem (.arg 0) (.index 0)))).before args s = true := hq _ (by decide +kernel)
  obtain ⟨b, xs, hb, hx⟩ := State.ints_of_pre rfl harr hlen hall
  have hsm : xs.length < 2 ^ 31 := hx.choose_spec.2.2.2
  have hev : (Term.length (.arg 0)).eval args s none [] s = some (.int xs.length.toInt32) := hx.length_eval hb
  have hv := Cond.le_ints hev (show (Term.int 120).eval args s none [] s = some (.int 120) from rfl)
  have hd : xs.length.toInt32 ≤ 120 := by
    simpa [Cond.before, Cond.holds, hv] using hle
  have hN : xs.length ≤ 120 := (Int32.ofNat_le_ofNat hsm (by decide)).mp (show Int32.ofNat xs.length ≤ Int32.ofNat 120 from hd)
  exact ⟨b, xs, Cond.one_arg hc (show args[0]? = some (.ref b) from hb), hx, hN, h⟩
theorem lw_comes (hp : zOwed) (l : Launch) (hflags : l.flags = flags0) : Comes l x (Jvm.Cond.code x code maxLocals ret :: tables_1) room_1 (fun tb e args s => Calls_1 tb e args s ∧ rest_1 tb e args s ∧ Pre_1 tb e args s)
    (fun _ _ args s o t => lw_Q args s o t) := by
  intro p e ha hc hk s m args below hf hfit hheap happ hpre
  obtain ⟨b, xs, hP⟩ := lw_pre_spec hpre.2.2 hpre.2.1
  obtain ⟨k, o, h1, h2, h3, hQ⟩ := lw_walk hp l hflags b xs p e ha hc hk s m args below hf ((Spec.applies_iff_loose hf).mp happ).1 hP trivial
  exact ⟨k, o, h1, h2, h3, hQ⟩
theorem lw_frame {s t : State} {o : Outcome} {args : Array Value} (h : Framed s o t [] 1200144 5496250) :
    Framed s o t (fieldLocs frame_1_writes args s ++ arrayLocs frame_1_arrays args s ++ staticLocs frame_1_statics s) 1200144 5496250 := h
theorem lw_limb (hp : zOwed) (L : Cond) (hL : ∀ (args : Array Value) (s t : State), L.after args s (.returned (some (.int 1))) t = true) :
    ArmFor flags0 classFile x code maxLocals ret World_1 tables_1 room_1 Calls_1 rest_1 Pre_1
      (fun tb e a s o t => postC L tb e a s o t ∧ Framed s o t (fieldLocs frame_1_writes a s ++ arrayLocs frame_1_arrays a s ++ staticLocs frame_1_statics s) 1200144 5496250) := by
  intro l hflags _ _ p e ha hc hk s m args below hf hfit hheap happ hpre
  obtain ⟨k, o, h1, h2, h3, rfl, hF⟩ := lw_comes hp l hflags p e ha hc hk s m args below hf hfit hheap happ hpre
  exact ⟨k, _, h1, h2, h3, hL args s _, lw_frame hF⟩
/-- the claim, out of what the P-layer owes -/
theorem z_claim (hp : zOwed) : Claimed_1_1 ∧ Claimed_1_2 := ⟨lw_limb hp limb_1_1 (fun args s t => by simp [limb_1_1, Cond.after, Cond.holds, Cond.value]), lw_limb hp limb_1_2 (fun args s t => Cond.after_iff.mpr (by
  first | (rw [show limb_1_2 = Cond.eq .result (.int 1) from rfl, Cond.eq_ints (x := 1) (y := 1) rfl rfl]; simp; done) | (simp [limb_1_2, Cond.value, Term.eval]; done)))⟩
