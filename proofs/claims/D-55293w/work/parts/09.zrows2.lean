section ZR2
variable {β : Type} {x : ZX β} {K : ZK} {cc : ByteArray} {own nm : String} {n F L : Nat} {en : β → Option Value} {ret : Option FieldType} {xt : List ExceptionTableEntry} {pc : Nat} {lv lv' : List (Nat × Value)} {st : List Value} {f g : ZP β}
theorem zpre_in {i : Nat} {lv : List (Nat × Value)} {v : Value} : ∀ (_ : (q : Nat × Value) → q ∈ lv → q.1 + 1 = i → True), (∃ q ∈ lv, q.1 + 1 = i) → ∃ w, zpre i lv = some w ∧ ∃ q ∈ lv, q.1 + 1 = i ∧ q.2 = w := by
  intro _ hex
  induction lv with
  | nil => obtain ⟨q, hq, -⟩ := hex; cases hq
  | cons a t ih =>
    unfold zpre
    cases hb : Nat.beq (a.1 + 1) i with
    | true => exact ⟨a.2, rfl, a, List.mem_cons_self, Nat.eq_of_beq_eq_true hb, rfl⟩
    | false =>
      obtain ⟨q, hq, he⟩ := hex
      rcases List.mem_cons.mp hq with e | e
      · subst e
        rw [he] at hb
        simp at hb
      · obtain ⟨w, h1, q', h2, h3⟩ := ih (fun _ _ _ => trivial) ⟨q, e, he⟩
        exact ⟨w, h1, q', List.mem_cons_of_mem _ h2, h3⟩
theorem zst_keep {ls : Array Slot} {nL i : Nat} (hls : lv_has ls nL lv) (hcat : zcat1 (zpre i lv)) (q : Nat × Value) (hq : q ∈ lv) (hi : q.1 + 1 = i) : q.2.category = 1 := by
  obtain ⟨w, h1, q', h2, h3, h4⟩ := zpre_in (v := q.2) (fun _ _ _ => trivial) ⟨q, hq, hi⟩
  rw [h1] at hcat
  have e : q'.1 = q.1 := by omega
  have e1 := hls.2.2 q hq
  have e2 := hls.2.2 q' h2
  rw [e] at e2
  have e3 : q.2 = q'.2 := by
    have := e1.symm.trans e2
    injection this with h5
    injection h5
  rw [e3, h4]
  exact hcat
theorem zst1 {ls ls' : Array Slot} {nL i : Nat} {v : Value} (hls : lv_has ls nL lv) (hcat : zcat1 (zpre i lv)) (h' : lv_has ls' nL ((i, v) :: lv.filter (fun q => !(q.1 == i) && !(q.1 + 1 == i && q.2.category == 2)))) : lv_has ls' nL ((i, v) :: zfil i lv) := by
  refine ⟨h'.1, h'.2.1, fun q hq => ?_⟩
  rcases List.mem_cons.mp hq with e | e
  · exact h'.2.2 q (by rw [e]; exact List.mem_cons_self)
  · obtain ⟨a1, a2⟩ := zfil_sub q e
    refine h'.2.2 q (List.mem_cons_of_mem _ (List.mem_filter.mpr ⟨a1, ?_⟩))
    by_cases hi : q.1 + 1 = i
    · have := zst_keep hls hcat q a1 hi
      simp [a2, this]
    · simp [a2, hi]
theorem zst2 {ls ls' : Array Slot} {nL i : Nat} {v : Value} (hls : lv_has ls nL lv) (hcat : zcat1 (zpre i lv)) (h' : lv_has ls' nL ((i, v) :: lv.filter (fun q => !(q.1 == i) && (!(q.1 == i + 1) && !(q.1 + 1 == i && q.2.category == 2))))) : lv_has ls' nL ((i, v) :: zfil i (zfil (i + 1) lv)) := by
  refine ⟨h'.1, h'.2.1, fun q hq => ?_⟩
  rcases List.mem_cons.mp hq with e | e
  · exact h'.2.2 q (by rw [e]; exact List.mem_cons_self)
  · obtain ⟨a1, a2⟩ := zfil_sub q e
    obtain ⟨a3, a4⟩ := zfil_sub q a1
    refine h'.2.2 q (List.mem_cons_of_mem _ (List.mem_filter.mpr ⟨a3, ?_⟩))
    by_cases hi : q.1 + 1 = i
    · have := zst_keep hls hcat q a3 hi
      simp [a2, a4, this]
    · simp [a2, a4, hi]
theorem zs_sub (ks : List Nat) (hk : lv_pick lv ks = lv') (k : zS x pc lv' st f) : zS x pc lv st f := by
  obtain ⟨p, l, e, R, s, m, args, below, meth, c, nL, G, enc, Q, X, mc, ms, qs⟩ := x
  exact fun ls hls h cb sb H locs cells slots hf hC hO h1 h2 => k ls (lv_sub hls ks hk) h cb sb H locs cells slots hf hC hO h1 h2
theorem zs_istore_n (hE : zE x K cc own nm n F L en ret xt) {i : Nat} {q : Fin 4} {v : Int32} (hi : (q : Nat) = i) (hn : i < n) (hcat : zcat1 (zpre i lv)) (hl : zfil i lv = lv') (d : decode cc pc = .ok (.istore_n q, 1)) (k : zS x (pc + 1) ((i, .int v) :: lv') st f) : zS x pc lv (.int v :: st) f := by
  obtain ⟨p, l, e, R, s, m, args, below, meth, c, nL, G, enc, Q, X, mc, ms, qs⟩ := x
  subst hl
  exact fun ls hls h cb sb H locs cells slots hf hC hO h1 h2 => lv_istore_n hE.1 hE.2.1 d hi hls (by rw [hE.2.2.2.1]; exact hn) rfl (fun ls' h' => k ls' (zst1 hls hcat h') h cb sb H locs cells slots hf hC hO h1 h2)
theorem zs_istore (hE : zE x K cc own nm n F L en ret xt) {i : Nat} {v : Int32} (hn : i < n) (hcat : zcat1 (zpre i lv)) (hl : zfil i lv = lv') (d : decode cc pc = .ok (.istore i, 2)) (k : zS x (pc + 2) ((i, .int v) :: lv') st f) : zS x pc lv (.int v :: st) f := by
  obtain ⟨p, l, e, R, s, m, args, below, meth, c, nL, G, enc, Q, X, mc, ms, qs⟩ := x
  subst hl
  exact fun ls hls h cb sb H locs cells slots hf hC hO h1 h2 => lv_istore hE.1 hE.2.1 d hls (by rw [hE.2.2.2.1]; exact hn) rfl (fun ls' h' => k ls' (zst1 hls hcat h') h cb sb H locs cells slots hf hC hO h1 h2)
theorem zs_fstore (hE : zE x K cc own nm n F L en ret xt) {i : Nat} {v : UInt32} (hn : i < n) (hcat : zcat1 (zpre i lv)) (hl : zfil i lv = lv') (d : decode cc pc = .ok (.fstore i, 2)) (k : zS x (pc + 2) ((i, .float v) :: lv') st f) : zS x pc lv (.float v :: st) f := by
  obtain ⟨p, l, e, R, s, m, args, below, meth, c, nL, G, enc, Q, X, mc, ms, qs⟩ := x
  subst hl
  exact fun ls hls h cb sb H locs cells slots hf hC hO h1 h2 => lv_fstore hE.1 hE.2.1 d hls (by rw [hE.2.2.2.1]; exact hn) rfl (fun ls' h' => k ls' (zst1 hls hcat h') h cb sb H locs cells slots hf hC hO h1 h2)
theorem zs_dstore (hE : zE x K cc own nm n F L en ret xt) {i : Nat} {v : UInt64} (hn : i + 1 < n) (hcat : zcat1 (zpre i lv)) (hl : zfil i (zfil (i + 1) lv) = lv') (d : decode cc pc = .ok (.dstore i, 2)) (k : zS x (pc + 2) ((i, .double v) :: lv') st f) : zS x pc lv (.double v :: st) f := by
  obtain ⟨p, l, e, R, s, m, args, below, meth, c, nL, G, enc, Q, X, mc, ms, qs⟩ := x
  subst hl
  exact fun ls hls h cb sb H locs cells slots hf hC hO h1 h2 => lv_dstore hE.1 hE.2.1 d hls (by rw [hE.2.2.2.1]; exact hn) rfl (fun ls' h' => k ls' (zst2 hls hcat h') h cb sb H locs cells slots hf hC hO h1 h2)
theorem zs_astore_n (hE : zE x K cc own nm n F L en ret xt) {i : Nat} {q : Fin 4} {v : Option Nat} (hi : (q : Nat) = i) (hn : i < n) (hcat : zcat1 (zpre i lv)) (hl : zfil i lv = lv') (d : decode cc pc = .ok (.astore_n q, 1)) (k : zS x (pc + 1) ((i, va_rf v) :: lv') st f) : zS x pc lv (va_rf v :: st) f := by
  obtain ⟨p, l, e, R, s, m, args, below, meth, c, nL, G, enc, Q, X, mc, ms, qs⟩ := x
  subst hl
  cases v with
  | none => exact fun ls hls h cb sb H locs cells slots hf hC hO h1 h2 => lv_astore_nN hE.1 hE.2.1 d hi hls (by rw [hE.2.2.2.1]; exact hn) rfl (fun ls' h' => k ls' (zst1 hls hcat h') h cb sb H locs cells slots hf hC hO h1 h2)
  | some a => exact fun ls hls h cb sb H locs cells slots hf hC hO h1 h2 => lv_astore_n hE.1 hE.2.1 d hi hls (by rw [hE.2.2.2.1]; exact hn) rfl (fun ls' h' => k ls' (zst1 hls hcat h') h cb sb H locs cells slots hf hC hO h1 h2)
theorem zs_astore (hE : zE x K cc own nm n F L en ret xt) {i : Nat} {v : Option Nat} (hn : i < n) (hcat : zcat1 (zpre i lv)) (hl : zfil i lv = lv') (d : decode cc pc = .ok (.astore i, 2)) (k : zS x (pc + 2) ((i, va_rf v) :: lv') st f) : zS x pc lv (va_rf v :: st) f := by
  obtain ⟨p, l, e, R, s, m, args, below, meth, c, nL, G, enc, Q, X, mc, ms, qs⟩ := x
  subst hl
  cases v with
  | none => exact fun ls hls h cb sb H locs cells slots hf hC hO h1 h2 => lv_astoreN hE.1 hE.2.1 d hls (by rw [hE.2.2.2.1]; exact hn) rfl (fun ls' h' => k ls' (zst1 hls hcat h') h cb sb H locs cells slots hf hC hO h1 h2)
  | some a => exact fun ls hls h cb sb H locs cells slots hf hC hO h1 h2 => lv_astore hE.1 hE.2.1 d hls (by rw [hE.2.2.2.1]; exact hn) rfl (fun ls' h' => k ls' (zst1 hls hcat h') h cb sb H locs cells slots hf hC hO h1 h2)
theorem zs_iinc (hE : zE x K cc own nm n F L en ret xt) (j : Nat) {i : Nat} {z : Int} {w v : Int32} (hj : lv[j]? = some (i, .int w)) (hv : Int32.ofInt z = v) (hn : i < n) (hcat : zcat1 (zpre i lv)) (hl : zfil i lv = lv') (d : decode cc pc = .ok (.iinc i z, 3)) (k : zS x (pc + 3) ((i, .int (w + v)) :: lv') st f) : zS x pc lv st f := by
  obtain ⟨p, l, e, R, s, m, args, below, meth, c, nL, G, enc, Q, X, mc, ms, qs⟩ := x
  subst hl
  exact fun ls hls h cb sb H locs cells slots hf hC hO h1 h2 => lv_iinc hE.1 hE.2.1 d hls hj (by rw [hv]) (by rw [hE.2.2.2.1]; exact hn) rfl (fun ls' h' => k ls' (zst1 hls hcat h') h cb sb H locs cells slots hf hC hO h1 h2)
theorem zs_goto (hE : zE x K cc own nm n F L en ret xt) {off : Int} (tgt : Nat) (ht : (pc : Int) + off = (tgt : Int)) (d : decode cc pc = .ok (.goto off, 3)) (k : zS x tgt lv st f) : zS x pc lv st f := by
  obtain ⟨p, l, e, R, s, m, args, below, meth, c, nL, G, enc, Q, X, mc, ms, qs⟩ := x
  exact fun ls hls h cb sb H locs cells slots hf hC hO h1 h2 => lv_goto hE.1 hE.2.1 d ht (k ls hls h cb sb H locs cells slots hf hC hO h1 h2)
theorem zs_if_eq (hE : zE x K cc own nm n F L en ret xt) {a : Int32} {off : Int} (tgt : Nat) (ht : (pc : Int) + off = (tgt : Int)) (d : decode cc pc = .ok (.ifCond .eq off, 3)) (kt : zS x tgt lv st f) (kf : zS x (pc + 3) lv st g) : zS x pc lv (.int a :: st) (zif (a = 0) f g) := by
  obtain ⟨p, l, e, R, s, m, args, below, meth, c, nL, G, enc, Q, X, mc, ms, qs⟩ := x
  exact fun ls hls h cb sb H locs cells slots hf hC hO h1 h2 => lv_if_eq hE.1 hE.2.1 d ht (fun z => kt ls hls h cb sb H locs cells slots (hf.1 z) hC hO h1 h2) (fun z => kf ls hls h cb sb H locs cells slots (hf.2 z) hC hO h1 h2)
theorem zs_icmp_eq (hE : zE x K cc own nm n F L en ret xt) {a b : Int32} {off : Int} (tgt : Nat) (ht : (pc : Int) + off = (tgt : Int)) (d : decode cc pc = .ok (.if_icmp .eq off, 3)) (kt : zS x tgt lv st f) (kf : zS x (pc + 3) lv st g) : zS x pc lv (.int b :: .int a :: st) (zif (a = b) f g) := by
  obtain ⟨p, l, e, R, s, m, args, below, meth, c, nL, G, enc, Q, X, mc, ms, qs⟩ := x
  exact fun ls hls h cb sb H locs cells slots hf hC hO h1 h2 => lv_icmp_eq hE.1 hE.2.1 d ht (fun z => kt ls hls h cb sb H locs cells slots (hf.1 z) hC hO h1 h2) (fun z => kf ls hls h cb sb H locs cells slots (hf.2 z) hC hO h1 h2)
theorem zs_if_ne (hE : zE x K cc own nm n F L en ret xt) {a : Int32} {off : Int} (tgt : Nat) (ht : (pc : Int) + off = (tgt : Int)) (d : decode cc pc = .ok (.ifCond .ne off, 3)) (kt : zS x (pc + 3) lv st f) (kf : zS x tgt lv st g) : zS x pc lv (.int a :: st) (zif (a = 0) f g) := by
  obtain ⟨p, l, e, R, s, m, args, below, meth, c, nL, G, enc, Q, X, mc, ms, qs⟩ := x
  exact fun ls hls h cb sb H locs cells slots hf hC hO h1 h2 => lv_if_ne hE.1 hE.2.1 d ht (fun z => kf ls hls h cb sb H locs cells slots (hf.2 z) hC hO h1 h2) (fun z => kt ls hls h cb sb H locs cells slots (hf.1 z) hC hO h1 h2)
theorem zs_icmp_ne (hE : zE x K cc own nm n F L en ret xt) {a b : Int32} {off : Int} (tgt : Nat) (ht : (pc : Int) + off = (tgt : Int)) (d : decode cc pc = .ok (.if_icmp .ne off, 3)) (kt : zS x (pc + 3) lv st f) (kf : zS x tgt lv st g) : zS x pc lv (.int b :: .int a :: st) (zif (a = b) f g) := by
  obtain ⟨p, l, e, R, s, m, args, below, meth, c, nL, G, enc, Q, X, mc, ms, qs⟩ := x
  exact fun ls hls h cb sb H locs cells slots hf hC hO h1 h2 => lv_icmp_ne hE.1 hE.2.1 d ht (fun z => kf ls hls h cb sb H locs cells slots (hf.2 z) hC hO h1 h2) (fun z => kt ls hls h cb sb H locs cells slots (hf.1 z) hC hO h1 h2)
theorem zs_if_lt (hE : zE x K cc own nm n F L en ret xt) {a : Int32} {off : Int} (tgt : Nat) (ht : (pc : Int) + off = (tgt : Int)) (d : decode cc pc = .ok (.ifCond .lt off, 3)) (kt : zS x tgt lv st f) (kf : zS x (pc + 3) lv st g) : zS x pc lv (.int a :: st) (zif (a < 0) f g) := by
  obtain ⟨p, l, e, R, s, m, args, below, meth, c, nL, G, enc, Q, X, mc, ms, qs⟩ := x
  exact fun ls hls h cb sb H locs cells slots hf hC hO h1 h2 => lv_if_lt hE.1 hE.2.1 d ht (fun z => kt ls hls h cb sb H locs cells slots (hf.1 z) hC hO h1 h2) (fun z => kf ls hls h cb sb H locs cells slots (hf.2 z) hC hO h1 h2)
theorem zs_icmp_lt (hE : zE x K cc own nm n F L en ret xt) {a b : Int32} {off : Int} (tgt : Nat) (ht : (pc : Int) + off = (tgt : Int)) (d : decode cc pc = .ok (.if_icmp .lt off, 3)) (kt : zS x tgt lv st f) (kf : zS x (pc + 3) lv st g) : zS x pc lv (.int b :: .int a :: st) (zif (a < b) f g) := by
  obtain ⟨p, l, e, R, s, m, args, below, meth, c, nL, G, enc, Q, X, mc, ms, qs⟩ := x
  exact fun ls hls h cb sb H locs cells slots hf hC hO h1 h2 => lv_icmp_lt hE.1 hE.2.1 d ht (fun z => kt ls hls h cb sb H locs cells slots (hf.1 z) hC hO h1 h2) (fun z => kf ls hls h cb sb H locs cells slots (hf.2 z) hC hO h1 h2)
theorem zs_if_ge (hE : zE x K cc own nm n F L en ret xt) {a : Int32} {off : Int} (tgt : Nat) (ht : (pc : Int) + off = (tgt : Int)) (d : decode cc pc = .ok (.ifCond .ge off, 3)) (kt : zS x tgt lv st f) (kf : zS x (pc + 3) lv st g) : zS x pc lv (.int a :: st) (zif (0 ≤ a) f g) := by
  obtain ⟨p, l, e, R, s, m, args, below, meth, c, nL, G, enc, Q, X, mc, ms, qs⟩ := x
  exact fun ls hls h cb sb H locs cells slots hf hC hO h1 h2 => lv_if_ge hE.1 hE.2.1 d ht (fun z => kt ls hls h cb sb H locs cells slots (hf.1 z) hC hO h1 h2) (fun z => kf ls hls h cb sb H locs cells slots (hf.2 z) hC hO h1 h2)
theorem zs_icmp_ge (hE : zE x K cc own nm n F L en ret xt) {a b : Int32} {off : Int} (tgt : Nat) (ht : (pc : Int) + off = (tgt : Int)) (d : decode cc pc = .ok (.if_icmp .ge off, 3)) (kt : zS x tgt lv st f) (kf : zS x (pc + 3) lv st g) : zS x pc lv (.int b :: .int a :: st) (zif (b ≤ a) f g) := by
  obtain ⟨p, l, e, R, s, m, args, below, meth, c, nL, G, enc, Q, X, mc, ms, qs⟩ := x
  exact fun ls hls h cb sb H locs cells slots hf hC hO h1 h2 => lv_icmp_ge hE.1 hE.2.1 d ht (fun z => kt ls hls h cb sb H locs cells slots (hf.1 z) hC hO h1 h2) (fun z => kf ls hls h cb sb H locs cells slots (hf.2 z) hC hO h1 h2)
theorem zs_if_gt (hE : zE x K cc own nm n F L en ret xt) {a : Int32} {off : Int} (tgt : Nat) (ht : (pc : Int) + off = (tgt : Int)) (d : decode cc pc = .ok (.ifCond .gt off, 3)) (kt : zS x tgt lv st f) (kf : zS x (pc + 3) lv st g) : zS x pc lv (.int a :: st) (zif (0 < a) f g) := by
  obtain ⟨p, l, e, R, s, m, args, below, meth, c, nL, G, enc, Q, X, mc, ms, qs⟩ := x
  exact fun ls hls h cb sb H locs cells slots hf hC hO h1 h2 => lv_if_gt hE.1 hE.2.1 d ht (fun z => kt ls hls h cb sb H locs cells slots (hf.1 z) hC hO h1 h2) (fun z => kf ls hls h cb sb H locs cells slots (hf.2 z) hC hO h1 h2)
theorem zs_icmp_gt (hE : zE x K cc own nm n F L en ret xt) {a b : Int32} {off : Int} (tgt : Nat) (ht : (pc : Int) + off = (tgt : Int)) (d : decode cc pc = .ok (.if_icmp .gt off, 3)) (kt : zS x tgt lv st f) (kf : zS x (pc + 3) lv st g) : zS x pc lv (.int b :: .int a :: st) (zif (b < a) f g) := by
  obtain ⟨p, l, e, R, s, m, args, below, meth, c, nL, G, enc, Q, X, mc, ms, qs⟩ := x
  exact fun ls hls h cb sb H locs cells slots hf hC hO h1 h2 => lv_icmp_gt hE.1 hE.2.1 d ht (fun z => kt ls hls h cb sb H locs cells slots (hf.1 z) hC hO h1 h2) (fun z => kf ls hls h cb sb H locs cells slots (hf.2 z) hC hO h1 h2)
theorem zs_if_le (hE : zE x K cc own nm n F L en ret xt) {a : Int32} {off : Int} (tgt : Nat) (ht : (pc : Int) + off = (tgt : Int)) (d : decode cc pc = .ok (.ifCond .le off, 3)) (kt : zS x tgt lv st f) (kf : zS x (pc + 3) lv st g) : zS x pc lv (.int a :: st) (zif (a ≤ 0) f g) := by
  obtain ⟨p, l, e, R, s, m, args, below, meth, c, nL, G, enc, Q, X, mc, ms, qs⟩ := x
  exact fun ls hls h cb sb H locs cells slots hf hC hO h1 h2 => lv_if_le hE.1 hE.2.1 d ht (fun z => kt ls hls h cb sb H locs cells slots (hf.1 z) hC hO h1 h2) (fun z => kf ls hls h cb sb H locs cells slots (hf.2 z) hC hO h1 h2)
theorem zs_icmp_le (hE : zE x K cc own nm n F L en ret xt) {a b : Int32} {off : Int} (tgt : Nat) (ht : (pc : Int) + off = (tgt : Int)) (d : decode cc pc = .ok (.if_icmp .le off, 3)) (kt : zS x tgt lv st f) (kf : zS x (pc + 3) lv st g) : zS x pc lv (.int b :: .int a :: st) (zif (a ≤ b) f g) := by
  obtain ⟨p, l, e, R, s, m, args, below, meth, c, nL, G, enc, Q, X, mc, ms, qs⟩ := x
  exact fun ls hls h cb sb H locs cells slots hf hC hO h1 h2 => lv_icmp_le hE.1 hE.2.1 d ht (fun z => kt ls hls h cb sb H locs cells slots (hf.1 z) hC hO h1 h2) (fun z => kf ls hls h cb sb H locs cells slots (hf.2 z) hC hO h1 h2)
theorem zs_ifnull (hE : zE x K cc own nm n F L en ret xt) {v : Option Nat} {off : Int} (tgt : Nat) (ht : (pc : Int) + off = (tgt : Int)) (d : decode cc pc = .ok (.ifnull off, 3)) (kt : zS x tgt lv st f) (kf : zS x (pc + 3) lv st g) : zS x pc lv (va_rf v :: st) (zif (v = none) f g) := by
  obtain ⟨p, l, e, R, s, m, args, below, meth, c, nL, G, enc, Q, X, mc, ms, qs⟩ := x
  cases v with
  | none => exact fun ls hls h cb sb H locs cells slots hf hC hO h1 h2 => lv_ifnullN hE.1 hE.2.1 d ht (kt ls hls h cb sb H locs cells slots (hf.1 rfl) hC hO h1 h2)
  | some a => exact fun ls hls h cb sb H locs cells slots hf hC hO h1 h2 => lv_ifnull hE.1 hE.2.1 d (kf ls hls h cb sb H locs cells slots (hf.2 (by simp)) hC hO h1 h2)
theorem zs_ifnonnull (hE : zE x K cc own nm n F L en ret xt) {v : Option Nat} {off : Int} (tgt : Nat) (ht : (pc : Int) + off = (tgt : Int)) (d : decode cc pc = .ok (.ifnonnull off, 3)) (kt : zS x (pc + 3) lv st f) (kf : zS x tgt lv st g) : zS x pc lv (va_rf v :: st) (zif (v = none) f g) := by
  obtain ⟨p, l, e, R, s, m, args, below, meth, c, nL, G, enc, Q, X, mc, ms, qs⟩ := x
  cases v with
  | none => exact fun ls hls h cb sb H locs cells slots hf hC hO h1 h2 => lv_ifnonnullN hE.1 hE.2.1 d (kt ls hls h cb sb H locs cells slots (hf.1 rfl) hC hO h1 h2)
  | some a => exact fun ls hls h cb sb H locs cells slots hf hC hO h1 h2 => lv_ifnonnull hE.1 hE.2.1 d ht (kf ls hls h cb sb H locs cells slots (hf.2 (by simp)) hC hO h1 h2)
theorem zs_acmp_eq (hE : zE x K cc own nm n F L en ret xt) {a b : Option Nat} {off : Int} (tgt : Nat) (ht : (pc : Int) + off = (tgt : Int)) (d : decode cc pc = .ok (.if_acmp .eq off, 3)) (kt : zS x tgt lv st f) (kf : zS x (pc + 3) lv st g) : zS x pc lv (va_rf b :: va_rf a :: st) (zif (a = b) f g) := by
  obtain ⟨p, l, e, R, s, m, args, below, meth, c, nL, G, enc, Q, X, mc, ms, qs⟩ := x
  exact fun ls hls h cb sb H locs cells slots hf hC hO h1 h2 => lv_acmp_eq hE.1 hE.2.1 d ht (fun z => kt ls hls h cb sb H locs cells slots (hf.1 z) hC hO h1 h2) (fun z => kf ls hls h cb sb H locs cells slots (hf.2 z) hC hO h1 h2)
theorem zs_acmp_ne (hE : zE x K cc own nm n F L en ret xt) {a b : Option Nat} {off : Int} (tgt : Nat) (ht : (pc : Int) + off = (tgt : Int)) (d : decode cc pc = .ok (.if_acmp .ne off, 3)) (kt : zS x (pc + 3) lv st f) (kf : zS x tgt lv st g) : zS x pc lv (va_rf b :: va_rf a :: st) (zif (a = b) f g) := by
  obtain ⟨p, l, e, R, s, m, args, below, meth, c, nL, G, enc, Q, X, mc, ms, qs⟩ := x
  exact fun ls hls h cb sb H locs cells slots hf hC hO h1 h2 => lv_acmp_ne hE.1 hE.2.1 d ht (fun z => kf ls hls h cb sb H locs cells slots (hf.2 z) hC hO h1 h2) (fun z => kt ls hls h cb sb H locs cells slots (hf.1 z) hC hO h1 h2)
theorem zs_bad : zS x pc lv st (zbad : ZP β) := by
  obtain ⟨p, l, e, R, s, m, args, below, meth, c, nL, G, enc, Q, X, mc, ms, qs⟩ := x
  exact fun ls hls h cb sb H locs cells slots hf hC hO h1 h2 => hf.elim
theorem zs_null (hE : zE x K cc own nm n F L en ret xt) (d : decode cc pc = .ok (.aconst_null, 1)) (k : zS x (pc + 1) lv (va_rf none :: st) f) : zS x pc lv st f := by
  obtain ⟨p, l, e, R, s, m, args, below, meth, c, nL, G, enc, Q, X, mc, ms, qs⟩ := x
  exact fun ls hls h cb sb H locs cells slots hf hC hO h1 h2 => lv_null hE.1 hE.2.1 d (k ls hls h cb sb H locs cells slots hf hC hO h1 h2)
/-- switches -/
def zSw {β : Type} (x : ZX β) (pc : Nat) (lv : List (Nat × Value)) (st : List Value) : Int → List Int → List (Int32 × ZP β) → Prop
  | lo, off :: offs, (k, f) :: cs => (k.toInt = lo ∧ ∃ tgt : Nat, (pc : Int) + off = (tgt : Int) ∧ zS x tgt lv st f) ∧ zSw x pc lv st (lo + 1) offs cs
  | _, [], [] => True
  | _, _, _ => False
theorem zsw_spec {v : Int32} {d : ZP β} : ∀ {offs : List Int} {cs : List (Int32 × ZP β)} {lo : Int}, zSw x pc lv st lo offs cs → ∀ {h : ZH} {cb sb : Nat} {Q : β → ZH → Prop} {X : Nat → ZH → Prop}, zsw v cs d h cb sb Q X →
    (∃ (off : Int) (tgt : Nat) (f : ZP β), ¬ v.toInt < lo ∧ offs[(v.toInt - lo).toNat]? = some off ∧ (pc : Int) + off = (tgt : Int) ∧ zS x tgt lv st f ∧ f h cb sb Q X) ∨ ((v.toInt < lo ∨ lo + offs.length ≤ v.toInt) ∧ d h cb sb Q X)
  | [], [], lo, _, h, cb, sb, Q, X, hf => Or.inr ⟨by simp; omega, hf⟩
  | off :: offs, (k, f) :: cs, lo, hs, h, cb, sb, Q, X, hf => by
    obtain ⟨⟨hk, tgt, ht, hz⟩, hr⟩ := hs
    by_cases hv : v = k
    · refine Or.inl ⟨off, tgt, f, by rw [hv]; omega, ?_, ht, hz, hf.1 hv⟩
      rw [hv, hk]
      simp
    · rcases zsw_spec hr (hf.2 hv) with ⟨off', tgt', f', h1, h2, h3⟩ | ⟨h1, h2⟩
      · refine Or.inl ⟨off', tgt', f', by omega, ?_, h3⟩
        rw [show (v.toInt - lo).toNat = (v.toInt - (lo + 1)).toNat + 1 by omega]
        exact h2
      · refine Or.inr ⟨?_, h2⟩
        have hne : v.toInt ≠ lo := fun e => hv (Int32.toInt_inj.mp (by rw [e, hk]))
        simp only [List.length_cons]
        omega
  | [], (_, _) :: _, _, hs, _, _, _, _, _, _ => hs.elim
  | _ :: _, [], _, hs, _, _, _, _, _, _ => hs.elim
theorem zs_tsw (hE : zE x K cc own nm n F L en ret xt) {v : Int32} {dflt lo hi : Int} {offs : Array Int} {offl : List Int} {len tgt : Nat} {cs : List (Int32 × ZP β)} (ho : offs.toList = offl) (hhi : hi + 1 = lo + offl.length) (d : decode cc pc = .ok (.tableswitch dflt lo hi offs, len)) (ht : (pc : Int) + dflt = (tgt : Int)) (hs : zSw x pc lv st lo offl cs) (k : zS x tgt lv st g) : zS x pc lv (.int v :: st) (zsw v cs g) := by
  subst ho
  obtain ⟨p, l, e, R, s, m, args, below, meth, c, nL, G, enc, Q, X, mc, ms, qs⟩ := x
  intro ls hls h cb sb H locs cells slots hf hC hO h1 h2
  rcases zsw_spec hs hf with ⟨off, tgt', f', a1, a2, a3, a4, a5⟩ | ⟨a1, a2⟩
  · refine lv_tableIn hE.1 hE.2.1 d a1 ?_ (by rw [Array.getElem?_toList] at a2; exact a2) a3 (a4 ls hls h cb sb H locs cells slots a5 hC hO h1 h2)
    have := (List.getElem?_eq_some_iff.mp a2).1
    omega
  · exact lv_tableOut hE.1 hE.2.1 d (by omega) ht (k ls hls h cb sb H locs cells slots a2 hC hO h1 h2)
end ZR2
