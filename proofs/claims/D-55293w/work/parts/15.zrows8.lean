section ZR8
variable {β : Type} {x : ZX β} {K : ZK} {cc : ByteArray} {own nm : String} {n F L : Nat} {en : β → Option Value} {ret : Option FieldType} {xt : List ExceptionTableEntry} {pc : Nat} {lv lv' : List (Nat × Value)} {st : List Value} {f g : ZP β}
theorem zs_loop {σ : Type} {lvf : σ → List (Nat × Value)} {body : (σ → ZP β) → σ → ZP β} (hb : ∀ self : σ → ZP β, (∀ v, zS x pc (lvf v) st (self v)) → ∀ v, zS x pc (lvf v) st (body self v)) (v : σ) : zS x pc (lvf v) st (zloop body v) := by
  obtain ⟨p, l, e, R, s, m, args, below, meth, c, nL, G, enc, Q, X, mc, ms, qs⟩ := x
  intro ls hls h cb sb H locs cells slots hf hC hO h1 h2
  obtain ⟨I, k, hI, hstep⟩ := hf
  have key : ∀ (k : Nat) (v : σ) (h : ZH) (cb sb : Nat), I k v h cb sb → ∀ (ls : Array Slot), lv_has ls nL (lvf v) → ∀ (H : Heap) (locs : List Loc) (cells slots : Nat), zC G h H → zO G s qs H locs → cells + cb ≤ mc → slots + sb ≤ ms → W p l e R s m args below meth c H locs cells slots (vx_MQ below (zQc G enc Q) (zXC G X) args s mc ms (zA G)) (F0 m pc ls st) := by
    intro k
    induction k using Nat.strongRecOn with
    | ind k ih =>
      intro v h cb sb hI ls hls H locs cells slots hC hO h1 h2
      refine hb (fun v' h' c' s' _ _ => ∃ n' : Nat, n' < k ∧ I n' v' h' c' s') ?_ v ls hls h cb sb H locs cells slots (hstep k v h cb sb hI) hC hO h1 h2
      intro v' ls' hls' h' cb' sb' H' locs' cells' slots' hf' hC' hO' h1' h2'
      obtain ⟨n', hn', hI'⟩ := hf'
      exact ih n' hn' v' h' cb' sb' hI' ls' hls' H' locs' cells' slots' hC' hO' h1' h2'
  exact key k v h cb sb hI ls hls H locs cells slots hC hO h1 h2
theorem zs_objInit (hE : zE x K cc own nm n F L en ret xt) {index : Nat} {a : Nat} (hl : Cond.methodLink own index Lib.objectInit ∈ lw_all) (hin : Cond.instanceMethod Lib.objectInit ∈ lw_all) (hco : Cond.code Lib.objectInit ⟨#[0xb1]⟩ 1 none ∈ lw_all) (hF : 1 ≤ F) (hL : (st.map fun v => v.category).sum + 12 ≤ L) (d : decode cc pc = .ok (.invokespecial index, 3)) (kk : zS x (pc + 3) lv st f) : zS x pc lv (.ref a :: st) f := by
  have hts := zEts hE
  have hr := zEr hE
  obtain ⟨p, l, e, R, s, m, args, below, meth, c, nL, G, enc, Q, X, mc, ms, qs⟩ := x
  dsimp only at hr
  exact fun ls hls h cb sb H locs cells slots hf hC hO h1 h2 => W.objInit hE.1 hE.2.1 hE.2.2.2.2.1 (hts _ (zq hl)) (hts _ (zq hin)) (hts _ (zq hco)) rfl (by rw [hE.2.2.1, ← hE.2.2.2.1]; exact hls.1) rfl d (by omega) (by show 2 * 0 + _ + 12 ≤ _; omega) (kk ls hls h cb sb H locs cells slots hf hC hO h1 h2)
theorem zs_lcmp (hE : zE x K cc own nm n F L en ret xt) {a b : Int64} (d : decode cc pc = .ok (.lcmp, 1)) (k : zS x (pc + 1) lv (.int (lg_cmp a b) :: st) f) : zS x pc lv (.long b :: .long a :: st) f := by
  obtain ⟨p, l, e, R, s, m, args, below, meth, c, nL, G, enc, Q, X, mc, ms, qs⟩ := x
  exact fun ls hls h cb sb H locs cells slots hf hC hO h1 h2 => W.lcmp hE.1 hE.2.1 d (k ls hls h cb sb H locs cells slots hf hC hO h1 h2)
/-- lookupswitch -/
def zLw {β : Type} (x : ZX β) (pc : Nat) (lv : List (Nat × Value)) (st : List Value) : List (Int × Int) → List (Int32 × ZP β) → Prop
  | (key, off) :: ps, (k, f) :: cs => (k.toInt = key ∧ ∃ tgt : Nat, (pc : Int) + off = (tgt : Int) ∧ zS x tgt lv st f) ∧ zLw x pc lv st ps cs
  | [], [] => True
  | _, _ => False
theorem zlw_spec {v : Int32} {d : ZP β} {dflt : Int} : ∀ {ps : List (Int × Int)} {cs : List (Int32 × ZP β)}, zLw x pc lv st ps cs → ∀ {h : ZH} {cb sb : Nat} {Q : β → ZH → Prop} {X : Nat → ZH → Prop}, zsw v cs d h cb sb Q X →
    (∃ (off : Int) (tgt : Nat) (f : ZP β), Op.lookupswitch.offset ps dflt v.toInt = off ∧ (pc : Int) + off = (tgt : Int) ∧ zS x tgt lv st f ∧ f h cb sb Q X) ∨ (Op.lookupswitch.offset ps dflt v.toInt = dflt ∧ d h cb sb Q X)
  | [], [], _, h, cb, sb, Q, X, hf => Or.inr ⟨by simp [Op.lookupswitch.offset], hf⟩
  | (key, off) :: ps, (k, f) :: cs, hs, h, cb, sb, Q, X, hf => by
    obtain ⟨⟨hk, tgt, ht, hz⟩, hr⟩ := hs
    by_cases hv : v = k
    · refine Or.inl ⟨off, tgt, f, ?_, ht, hz, hf.1 hv⟩
      rw [hv]
      simp [Op.lookupswitch.offset, hk]
    · have hne : ¬ key = v.toInt := fun e => hv (Int32.toInt_inj.mp (by rw [hk, e]))
      have hne' : ¬ v.toInt = key := fun e => hne e.symm
      rcases zlw_spec (dflt := dflt) hr (hf.2 hv) with ⟨off', tgt', f', h1, h2, h3⟩ | ⟨h1, h2⟩
      · refine Or.inl ⟨off', tgt', f', ?_, h2, h3⟩
        rw [← h1]
        simp [Op.lookupswitch.offset, hne, hne']
      · refine Or.inr ⟨Eq.trans ?_ h1, h2⟩
        simp [Op.lookupswitch.offset, hne, hne']
  | [], (_, _) :: _, hs, _, _, _, _, _, _ => hs.elim
  | _ :: _, [], hs, _, _, _, _, _, _ => hs.elim
theorem zs_lsw (hE : zE x K cc own nm n F L en ret xt) {v : Int32} {dflt : Int} {ps : Array (Int × Int)} {psl : List (Int × Int)} {len tgt : Nat} {cs : List (Int32 × ZP β)} (ho : ps.toList = psl) (hp : (psl.zip (psl.drop 1)).all (fun (a, next) => a.1 < next.1) = true) (d : decode cc pc = .ok (.lookupswitch dflt ps, len)) (ht : (pc : Int) + dflt = (tgt : Int)) (hs : zLw x pc lv st psl cs) (k : zS x tgt lv st g) : zS x pc lv (.int v :: st) (zsw v cs g) := by
  subst ho
  obtain ⟨p, l, e, R, s, m, args, below, meth, c, nL, G, enc, Q, X, mc, ms, qs⟩ := x
  intro ls hls h cb sb H locs cells slots hf hC hO h1 h2
  rcases zlw_spec (dflt := dflt) hs hf with ⟨off, tgt', f', a2, a3, a4, a5⟩ | ⟨a1, a2⟩
  · exact lv_lookup hE.1 hE.2.1 d hp a2 a3 (a4 ls hls h cb sb H locs cells slots a5 hC hO h1 h2)
  · exact lv_lookup hE.1 hE.2.1 d hp a1 ht (k ls hls h cb sb H locs cells slots a2 hC hO h1 h2)
theorem zcat_i (v : Int32) : (Value.int v).category = 1 := rfl
theorem zcat_j (v : Int64) : (Value.long v).category = 2 := rfl
theorem zcat_f (v : UInt32) : (Value.float v).category = 1 := rfl
theorem zcat_d (v : UInt64) : (Value.double v).category = 2 := rfl
theorem zsl_nil : lg_sl [] = [] := rfl
theorem zsl_rf (v : Option Nat) (vs : List Value) : lg_sl (va_rf v :: vs) = .val (va_rf v) :: lg_sl vs := by cases v <;> rfl
theorem zsl_r (v : Nat) (vs : List Value) : lg_sl (.ref v :: vs) = .val (.ref v) :: lg_sl vs := rfl
theorem zsl_i (v : Int32) (vs : List Value) : lg_sl (.int v :: vs) = .val (.int v) :: lg_sl vs := rfl
theorem zsl_j (v : Int64) (vs : List Value) : lg_sl (.long v :: vs) = .val (.long v) :: .second :: lg_sl vs := rfl
theorem zsl_f (v : UInt32) (vs : List Value) : lg_sl (.float v :: vs) = .val (.float v) :: lg_sl vs := rfl
theorem zsl_d (v : UInt64) (vs : List Value) : lg_sl (.double v :: vs) = .val (.double v) :: .second :: lg_sl vs := rfl
theorem zla_nil (i : Nat) : lv_args i [] = [] := rfl
theorem zla_rf (i : Nat) (v : Option Nat) (vs : List Value) : lv_args i (va_rf v :: vs) = (i, va_rf v) :: lv_args (i + 1) vs := by cases v <;> rfl
theorem zla_r (i : Nat) (v : Nat) (vs : List Value) : lv_args i (.ref v :: vs) = (i, .ref v) :: lv_args (i + 1) vs := rfl
theorem zla_i (i : Nat) (v : Int32) (vs : List Value) : lv_args i (.int v :: vs) = (i, .int v) :: lv_args (i + 1) vs := rfl
theorem zla_j (i : Nat) (v : Int64) (vs : List Value) : lv_args i (.long v :: vs) = (i, .long v) :: lv_args (i + 2) vs := rfl
theorem zla_f (i : Nat) (v : UInt32) (vs : List Value) : lv_args i (.float v :: vs) = (i, .float v) :: lv_args (i + 1) vs := rfl
theorem zla_d (i : Nat) (v : UInt64) (vs : List Value) : lv_args i (.double v :: vs) = (i, .double v) :: lv_args (i + 2) vs := rfl
theorem zc1 {a : Nat} {r : vw_C} {to : String} (h1 : zCL[a]? = some r) (h2 : r.1 = to ∨ Cond.castable r.1 to ∈ zNest) : ∀ ci ∈ [a], ∃ r : vw_C, zCL[ci]? = some r ∧ (r.1 = to ∨ Cond.castable r.1 to ∈ zNest) := by
  intro ci hci
  rw [List.mem_singleton.mp hci]
  exact ⟨r, h1, h2⟩
theorem zth_0 (args : Array Value) (s : State) (hts : ∀ w ∈ zAll, w.before args s = true) (hn : ∀ w ∈ zNest, va_Nw w s) : ∀ w ∈ vx_at0 "TokenRing" 48 (zXN 0) zNames, w.before args s = true := by
  refine vx_hat (B := [Cond.declares ⟨"java/lang/RuntimeException", "<init>", "()V"⟩, Cond.declares ⟨"java/lang/Exception", "<init>", "()V"⟩, Cond.declares ⟨"java/lang/Throwable", "<init>", "()V"⟩, Cond.castable (zXN 0) (zXN 0)]) (fun w hw => hts w (zq (lw_in ((vx_at0 "TokenRing" 48 (zXN 0) zNames).filter goodWord) [107, 960, 969, 978, 981, 983, 961, 962, 169, 170, 963, 968, 979, 996, 950, 997, 952, 998, 954, 964, 966, 956, 1810, 1811, 1812, 988, 988, 989, 990, 991, 991, 992, 993, 961, 1809, 1801, 1803, 977, 1804, 1805, 1806, 1807, 959, 958, 1808] (by decide +kernel) (by decide +kernel) w hw))) (by decide +kernel) ?_
  exact vx_c (va_Nw.use rfl (hn _ (zn q941 rfl))) (vx_c (va_Nw.use rfl (hn _ (zn q943 rfl))) (vx_c (va_Nw.use rfl (hn _ (zn q945 rfl))) (vx_c (va_Nw.use rfl (hn _ (zn q1802 rfl))) (vx_n))))
theorem zthg_0 : ∀ w ∈ vx_at0 "TokenRing" 48 (zXN 0) zNames, vx_ot w = true := List.all_eq_true.mp (by decide +kernel)
theorem zth_1 (args : Array Value) (s : State) (hts : ∀ w ∈ zAll, w.before args s = true) (hn : ∀ w ∈ zNest, va_Nw w s) : ∀ w ∈ vx_at0 "TokenRing" 59 (zXN 1) zNames, w.before args s = true := by
  refine vx_hat (B := [Cond.declares ⟨"java/lang/RuntimeException", "<init>", "()V"⟩, Cond.declares ⟨"java/lang/Exception", "<init>", "()V"⟩, Cond.declares ⟨"java/lang/Throwable", "<init>", "()V"⟩, Cond.castable (zXN 1) (zXN 1)]) (fun w hw => hts w (zq (lw_in ((vx_at0 "TokenRing" 59 (zXN 1) zNames).filter goodWord) [107, 960, 969, 978, 981, 983, 961, 962, 169, 170, 963, 968, 979, 996, 950, 997, 952, 998, 954, 964, 966, 956, 2143, 2144, 2145, 988, 988, 989, 990, 991, 991, 992, 993, 961, 2142, 1286, 1288, 973, 1289, 1290, 1291, 1292, 959, 958, 1293] (by decide +kernel) (by decide +kernel) w hw))) (by decide +kernel) ?_
  exact vx_c (va_Nw.use rfl (hn _ (zn q941 rfl))) (vx_c (va_Nw.use rfl (hn _ (zn q943 rfl))) (vx_c (va_Nw.use rfl (hn _ (zn q945 rfl))) (vx_c (va_Nw.use rfl (hn _ (zn q1287 rfl))) (vx_n))))
theorem zthg_1 : ∀ w ∈ vx_at0 "TokenRing" 59 (zXN 1) zNames, vx_ot w = true := List.all_eq_true.mp (by decide +kernel)
theorem zth_2 (args : Array Value) (s : State) (hts : ∀ w ∈ zAll, w.before args s = true) (hn : ∀ w ∈ zNest, va_Nw w s) : ∀ w ∈ vx_at0 "TokenRing" 62 (zXN 2) zNames, w.before args s = true := by
  refine vx_hat (B := [Cond.declares ⟨"java/lang/RuntimeException", "<init>", "()V"⟩, Cond.declares ⟨"java/lang/Exception", "<init>", "()V"⟩, Cond.declares ⟨"java/lang/Throwable", "<init>", "()V"⟩, Cond.castable (zXN 2) (zXN 2)]) (fun w hw => hts w (zq (lw_in ((vx_at0 "TokenRing" 62 (zXN 2) zNames).filter goodWord) [107, 960, 969, 978, 981, 983, 961, 962, 169, 170, 963, 968, 979, 996, 950, 997, 952, 998, 954, 964, 966, 956, 2178, 2179, 2180, 988, 988, 989, 990, 991, 991, 992, 993, 961, 2177, 1986, 1988, 975, 1989, 1990, 1991, 1992, 959, 958, 1993] (by decide +kernel) (by decide +kernel) w hw))) (by decide +kernel) ?_
  exact vx_c (va_Nw.use rfl (hn _ (zn q941 rfl))) (vx_c (va_Nw.use rfl (hn _ (zn q943 rfl))) (vx_c (va_Nw.use rfl (hn _ (zn q945 rfl))) (vx_c (va_Nw.use rfl (hn _ (zn q1987 rfl))) (vx_n))))
theorem zthg_2 : ∀ w ∈ vx_at0 "TokenRing" 62 (zXN 2) zNames, vx_ot w = true := List.all_eq_true.mp (by decide +kernel)
theorem zth_3 (args : Array Value) (s : State) (hts : ∀ w ∈ zAll, w.before args s = true) (hn : ∀ w ∈ zNest, va_Nw w s) : ∀ w ∈ vx_at0 "TokenRing" 65 (zXN 3) zNames, w.before args s = true := by
  refine vx_hat (B := [Cond.declares ⟨"java/lang/RuntimeException", "<init>", "()V"⟩, Cond.declares ⟨"java/lang/Exception", "<init>", "()V"⟩, Cond.declares ⟨"java/lang/Throwable", "<init>", "()V"⟩, Cond.castable (zXN 3) (zXN 3)]) (fun w hw => hts w (zq (lw_in ((vx_at0 "TokenRing" 65 (zXN 3) zNames).filter goodWord) [107, 960, 969, 978, 981, 983, 961, 962, 169, 170, 963, 968, 979, 996, 950, 997, 952, 998, 954, 964, 966, 956, 985, 986, 987, 988, 988, 989, 990, 991, 991, 992, 993, 961, 2158, 939, 947, 948, 949, 951, 953, 955, 959, 958, 957] (by decide +kernel) (by decide +kernel) w hw))) (by decide +kernel) ?_
  exact vx_c (va_Nw.use rfl (hn _ (zn q941 rfl))) (vx_c (va_Nw.use rfl (hn _ (zn q943 rfl))) (vx_c (va_Nw.use rfl (hn _ (zn q945 rfl))) (vx_c (va_Nw.use rfl (hn _ (zn q940 rfl))) (vx_n))))
theorem zthg_3 : ∀ w ∈ vx_at0 "TokenRing" 65 (zXN 3) zNames, vx_ot w = true := List.all_eq_true.mp (by decide +kernel)
theorem zth_4 (args : Array Value) (s : State) (hts : ∀ w ∈ zAll, w.before args s = true) (hn : ∀ w ∈ zNest, va_Nw w s) : ∀ w ∈ vx_at0 "TokenRing" 68 (zXN 4) zNames, w.before args s = true := by
  refine vx_hat (B := [Cond.declares ⟨"java/lang/RuntimeException", "<init>", "()V"⟩, Cond.declares ⟨"java/lang/Exception", "<init>", "()V"⟩, Cond.declares ⟨"java/lang/Throwable", "<init>", "()V"⟩, Cond.castable (zXN 4) (zXN 4)]) (fun w hw => hts w (zq (lw_in ((vx_at0 "TokenRing" 68 (zXN 4) zNames).filter goodWord) [107, 960, 969, 978, 981, 983, 961, 962, 169, 170, 963, 968, 979, 996, 950, 997, 952, 998, 954, 964, 966, 956, 2452, 2453, 2454, 988, 988, 989, 990, 991, 991, 992, 993, 961, 2451, 1848, 1850, 974, 1851, 1852, 1853, 1854, 959, 958, 1855] (by decide +kernel) (by decide +kernel) w hw))) (by decide +kernel) ?_
  exact vx_c (va_Nw.use rfl (hn _ (zn q941 rfl))) (vx_c (va_Nw.use rfl (hn _ (zn q943 rfl))) (vx_c (va_Nw.use rfl (hn _ (zn q945 rfl))) (vx_c (va_Nw.use rfl (hn _ (zn q1849 rfl))) (vx_n))))
theorem zthg_4 : ∀ w ∈ vx_at0 "TokenRing" 68 (zXN 4) zNames, vx_ot w = true := List.all_eq_true.mp (by decide +kernel)
theorem zth_5 (args : Array Value) (s : State) (hts : ∀ w ∈ zAll, w.before args s = true) (hn : ∀ w ∈ zNest, va_Nw w s) : ∀ w ∈ vx_at0 "TokenRing" 443 (zXN 5) zNames, w.before args s = true := by
  refine vx_hat (B := [Cond.declares ⟨"java/lang/RuntimeException", "<init>", "()V"⟩, Cond.declares ⟨"java/lang/Exception", "<init>", "()V"⟩, Cond.declares ⟨"java/lang/Throwable", "<init>", "()V"⟩, Cond.castable (zXN 5) (zXN 5)]) (fun w hw => hts w (zq (lw_in ((vx_at0 "TokenRing" 443 (zXN 5) zNames).filter goodWord) [107, 960, 969, 978, 981, 983, 961, 962, 169, 170, 963, 968, 979, 996, 950, 997, 952, 998, 954, 964, 966, 956, 2777, 2778, 2779, 988, 988, 989, 990, 991, 991, 992, 993, 961, 2776, 2754, 2766, 971, 2760, 2761, 2763, 2759, 959, 958, 2758] (by decide +kernel) (by decide +kernel) w hw))) (by decide +kernel) ?_
  exact vx_c (va_Nw.use rfl (hn _ (zn q941 rfl))) (vx_c (va_Nw.use rfl (hn _ (zn q943 rfl))) (vx_c (va_Nw.use rfl (hn _ (zn q945 rfl))) (vx_c (va_Nw.use rfl (hn _ (zn q2765 rfl))) (vx_n))))
theorem zthg_5 : ∀ w ∈ vx_at0 "TokenRing" 443 (zXN 5) zNames, vx_ot w = true := List.all_eq_true.mp (by decide +kernel)
end ZR8
