/-! SIM-LAYER, written by gen/dec.py -/
theorem hdx_h0 : (⟨"java/lang/Comparable", "compareTo", "(Ljava/lang/Object;)I"⟩ : MethodName).cls ≠ "java/lang/invoke/MethodHandle" ∧ (⟨"java/lang/Comparable", "compareTo", "(Ljava/lang/Object;)I"⟩ : MethodName).cls ≠ "java/lang/invoke/VarHandle" ∧ (parseMethodDescriptor (⟨"java/lang/Comparable", "compareTo", "(Ljava/lang/Object;)I"⟩ : MethodName).desc).map (fun d => d.parameters.length) = some 1 := by decide +kernel
theorem hdx_h1 : (⟨"java/util/Collection", "iterator", "()Ljava/util/Iterator;"⟩ : MethodName).cls ≠ "java/lang/invoke/MethodHandle" ∧ (⟨"java/util/Collection", "iterator", "()Ljava/util/Iterator;"⟩ : MethodName).cls ≠ "java/lang/invoke/VarHandle" ∧ (parseMethodDescriptor (⟨"java/util/Collection", "iterator", "()Ljava/util/Iterator;"⟩ : MethodName).desc).map (fun d => d.parameters.length) = some 0 := by decide +kernel
theorem hdx_h2 : (⟨"java/util/Iterator", "hasNext", "()Z"⟩ : MethodName).cls ≠ "java/lang/invoke/MethodHandle" ∧ (⟨"java/util/Iterator", "hasNext", "()Z"⟩ : MethodName).cls ≠ "java/lang/invoke/VarHandle" ∧ (parseMethodDescriptor (⟨"java/util/Iterator", "hasNext", "()Z"⟩ : MethodName).desc).map (fun d => d.parameters.length) = some 0 := by decide +kernel
theorem hdx_h3 : (⟨"java/util/TreeMap$ValueIterator", "nextEntry", "()Ljava/util/TreeMap$Entry;"⟩ : MethodName).cls ≠ "java/lang/invoke/MethodHandle" ∧ (⟨"java/util/TreeMap$ValueIterator", "nextEntry", "()Ljava/util/TreeMap$Entry;"⟩ : MethodName).cls ≠ "java/lang/invoke/VarHandle" ∧ (parseMethodDescriptor (⟨"java/util/TreeMap$ValueIterator", "nextEntry", "()Ljava/util/TreeMap$Entry;"⟩ : MethodName).desc).map (fun d => d.parameters.length) = some 0 := by decide +kernel
theorem hdx_h4 : (⟨"java/util/Iterator", "next", "()Ljava/lang/Object;"⟩ : MethodName).cls ≠ "java/lang/invoke/MethodHandle" ∧ (⟨"java/util/Iterator", "next", "()Ljava/lang/Object;"⟩ : MethodName).cls ≠ "java/lang/invoke/VarHandle" ∧ (parseMethodDescriptor (⟨"java/util/Iterator", "next", "()Ljava/lang/Object;"⟩ : MethodName).desc).map (fun d => d.parameters.length) = some 0 := by decide +kernel
theorem hdx_h5 : (⟨"java/util/AbstractMap", "size", "()I"⟩ : MethodName).cls ≠ "java/lang/invoke/MethodHandle" ∧ (⟨"java/util/AbstractMap", "size", "()I"⟩ : MethodName).cls ≠ "java/lang/invoke/VarHandle" ∧ (parseMethodDescriptor (⟨"java/util/AbstractMap", "size", "()I"⟩ : MethodName).desc).map (fun d => d.parameters.length) = some 0 := by decide +kernel
theorem hdx_h6 : (⟨"java/util/TreeMap", "isEmpty", "()Z"⟩ : MethodName).cls ≠ "java/lang/invoke/MethodHandle" ∧ (⟨"java/util/TreeMap", "isEmpty", "()Z"⟩ : MethodName).cls ≠ "java/lang/invoke/VarHandle" ∧ (parseMethodDescriptor (⟨"java/util/TreeMap", "isEmpty", "()Z"⟩ : MethodName).desc).map (fun d => d.parameters.length) = some 0 := by decide +kernel
theorem hdx_h7 : (⟨"java/util/TreeMap$NavigableSubMap", "entrySet", "()Ljava/util/Set;"⟩ : MethodName).cls ≠ "java/lang/invoke/MethodHandle" ∧ (⟨"java/util/TreeMap$NavigableSubMap", "entrySet", "()Ljava/util/Set;"⟩ : MethodName).cls ≠ "java/lang/invoke/VarHandle" ∧ (parseMethodDescriptor (⟨"java/util/TreeMap$NavigableSubMap", "entrySet", "()Ljava/util/Set;"⟩ : MethodName).desc).map (fun d => d.parameters.length) = some 0 := by decide +kernel
theorem hdx_h8 : (⟨"java/util/TreeMap$AscendingSubMap", "absLowest", "()Ljava/util/TreeMap$Entry;"⟩ : MethodName).cls ≠ "java/lang/invoke/MethodHandle" ∧ (⟨"java/util/TreeMap$AscendingSubMap", "absLowest", "()Ljava/util/TreeMap$Entry;"⟩ : MethodName).cls ≠ "java/lang/invoke/VarHandle" ∧ (parseMethodDescriptor (⟨"java/util/TreeMap$AscendingSubMap", "absLowest", "()Ljava/util/TreeMap$Entry;"⟩ : MethodName).desc).map (fun d => d.parameters.length) = some 0 := by decide +kernel
theorem hdx_h9 : (⟨"java/util/TreeMap$AscendingSubMap", "absHighFence", "()Ljava/util/TreeMap$Entry;"⟩ : MethodName).cls ≠ "java/lang/invoke/MethodHandle" ∧ (⟨"java/util/TreeMap$AscendingSubMap", "absHighFence", "()Ljava/util/TreeMap$Entry;"⟩ : MethodName).cls ≠ "java/lang/invoke/VarHandle" ∧ (parseMethodDescriptor (⟨"java/util/TreeMap$AscendingSubMap", "absHighFence", "()Ljava/util/TreeMap$Entry;"⟩ : MethodName).desc).map (fun d => d.parameters.length) = some 0 := by decide +kernel
theorem hdx_h10 : (⟨"java/util/TreeMap$NavigableSubMap$EntrySetView", "iterator", "()Ljava/util/Iterator;"⟩ : MethodName).cls ≠ "java/lang/invoke/MethodHandle" ∧ (⟨"java/util/TreeMap$NavigableSubMap$EntrySetView", "iterator", "()Ljava/util/Iterator;"⟩ : MethodName).cls ≠ "java/lang/invoke/VarHandle" ∧ (parseMethodDescriptor (⟨"java/util/TreeMap$NavigableSubMap$EntrySetView", "iterator", "()Ljava/util/Iterator;"⟩ : MethodName).desc).map (fun d => d.parameters.length) = some 0 := by decide +kernel
theorem hdx_h11 : (⟨"java/util/TreeMap$NavigableSubMap$SubMapEntryIterator", "nextEntry", "()Ljava/util/TreeMap$Entry;"⟩ : MethodName).cls ≠ "java/lang/invoke/MethodHandle" ∧ (⟨"java/util/TreeMap$NavigableSubMap$SubMapEntryIterator", "nextEntry", "()Ljava/util/TreeMap$Entry;"⟩ : MethodName).cls ≠ "java/lang/invoke/VarHandle" ∧ (parseMethodDescriptor (⟨"java/util/TreeMap$NavigableSubMap$SubMapEntryIterator", "nextEntry", "()Ljava/util/TreeMap$Entry;"⟩ : MethodName).desc).map (fun d => d.parameters.length) = some 0 := by decide +kernel
theorem hdx_h12 : (⟨"java/util/Set", "size", "()I"⟩ : MethodName).cls ≠ "java/lang/invoke/MethodHandle" ∧ (⟨"java/util/Set", "size", "()I"⟩ : MethodName).cls ≠ "java/lang/invoke/VarHandle" ∧ (parseMethodDescriptor (⟨"java/util/Set", "size", "()I"⟩ : MethodName).desc).map (fun d => d.parameters.length) = some 0 := by decide +kernel
theorem hdx_h13 : (⟨"java/lang/AbstractStringBuilder", "length", "()I"⟩ : MethodName).cls ≠ "java/lang/invoke/MethodHandle" ∧ (⟨"java/lang/AbstractStringBuilder", "length", "()I"⟩ : MethodName).cls ≠ "java/lang/invoke/VarHandle" ∧ (parseMethodDescriptor (⟨"java/lang/AbstractStringBuilder", "length", "()I"⟩ : MethodName).desc).map (fun d => d.parameters.length) = some 0 := by decide +kernel
theorem hdx_h14 : (⟨"java/lang/CharSequence", "length", "()I"⟩ : MethodName).cls ≠ "java/lang/invoke/MethodHandle" ∧ (⟨"java/lang/CharSequence", "length", "()I"⟩ : MethodName).cls ≠ "java/lang/invoke/VarHandle" ∧ (parseMethodDescriptor (⟨"java/lang/CharSequence", "length", "()I"⟩ : MethodName).desc).map (fun d => d.parameters.length) = some 0 := by decide +kernel
theorem hdx_h15 : (⟨"java/lang/CharSequence", "charAt", "(I)C"⟩ : MethodName).cls ≠ "java/lang/invoke/MethodHandle" ∧ (⟨"java/lang/CharSequence", "charAt", "(I)C"⟩ : MethodName).cls ≠ "java/lang/invoke/VarHandle" ∧ (parseMethodDescriptor (⟨"java/lang/CharSequence", "charAt", "(I)C"⟩ : MethodName).desc).map (fun d => d.parameters.length) = some 1 := by decide +kernel
theorem hdx_h16 : (⟨"TokenRing$Order", "does", "()V"⟩ : MethodName).cls ≠ "java/lang/invoke/MethodHandle" ∧ (⟨"TokenRing$Order", "does", "()V"⟩ : MethodName).cls ≠ "java/lang/invoke/VarHandle" ∧ (parseMethodDescriptor (⟨"TokenRing$Order", "does", "()V"⟩ : MethodName).desc).map (fun d => d.parameters.length) = some 0 := by decide +kernel
theorem sm_X1_isBetween {x : ZX Int32} {K : ZK} (hE : zE x K cX1_isBetween RX1 "isBetween" 3 1 100 encI (Option.some Jvm.ClassFile.FieldType.boolean) []) (a1 : Int32) (a2 : Int32) (a3 : Int32) : zS x 0 [(0, .int a1), (1, .int a2), (2, .int a3)] [] (s_X1_isBetween K a1 a2 a3) := by
  unfold s_X1_isBetween
  refine zs_iload_n hE 0 rfl rfl dX1_isBetween_0 ?_
  refine zs_iload_n hE 1 rfl rfl dX1_isBetween_1 ?_
  refine zs_icmp_lt hE 14 (by decide) dX1_isBetween_2 ?_ ?_
  · refine zs_iconst hE (v := (0 : Int32)) (by decide) dX1_isBetween_14 ?_
    exact zs_zret hE rfl dX1_isBetween_15
  · refine zs_iload_n hE 0 rfl rfl dX1_isBetween_5 ?_
    refine zs_iload_n hE 2 rfl rfl dX1_isBetween_6 ?_
    refine zs_icmp_gt hE 14 (by decide) dX1_isBetween_7 ?_ ?_
    · refine zs_iconst hE (v := (0 : Int32)) (by decide) dX1_isBetween_14 ?_
      exact zs_zret hE rfl dX1_isBetween_15
    · refine zs_iconst hE (v := (1 : Int32)) (by decide) dX1_isBetween_10 ?_
      refine zs_goto hE 15 (by decide) dX1_isBetween_11 ?_
      exact zs_zret hE rfl dX1_isBetween_15
theorem hd_X1_isBetween : (yX1_isBetween).cls ≠ "java/lang/invoke/MethodHandle" ∧ (yX1_isBetween).cls ≠ "java/lang/invoke/VarHandle" ∧ (parseMethodDescriptor (yX1_isBetween).desc).map (fun d => d.parameters.length) = some 3 := by decide +kernel
theorem met_X1_isBetween (K : ZK) (a1 : Int32) (a2 : Int32) (a3 : Int32) : zMeth K yX1_isBetween (zws yX1_isBetween cX1_isBetween 3 (Option.some Jvm.ClassFile.FieldType.boolean)) 1 100 [.int a1, .int a2, .int a3] encI (s_X1_isBetween K a1 a2 a3) :=
  fun l G hl hK => zmet_of hl hK (by decide +kernel) rfl rfl (by simp [zsl_nil, zsl_rf, zsl_r, zsl_i, zsl_j, zsl_f, zsl_d]) (fun x hE => by simp only [zla_nil, zla_rf, zla_r, zla_i, zla_j, zla_f, zla_d, Nat.reduceAdd]; exact sm_X1_isBetween hE a1 a2 a3)
theorem sm_X4_init {x : ZX Unit} {K : ZK} (hE : zE x K cX4_init RX4 "<init>" 4 1 100 encV none []) (this : Nat) (a1 : Int32) (a2 : Int32) (a3 : Option Nat) : zS x 0 [(0, va_rf (some this)), (1, .int a1), (2, .int a2), (3, va_rf a3)] [] (s_X4_init K this a1 a2 a3) := by
  unfold s_X4_init
  refine zs_aload_n hE 0 rfl rfl dX4_init_0 ?_
  refine zs_objInit hE q1786 q169 q170 (by decide) (by first | decide | simp [zcat_rf, zcat_i, zcat_j, zcat_f, zcat_d]) dX4_init_1 ?_
  refine zs_aload_n hE 0 rfl rfl dX4_init_4 ?_
  refine zs_iload_n hE 1 rfl rfl dX4_init_5 ?_
  refine zs_putI hE (ci := 36) (k := 0) rfl (by decide) in_X4 (Or.inl q1787) (Or.inl rfl) (Or.inr ⟨rfl, rfl, rfl⟩) (fun _ => q1787) rfl dX4_init_6 ?_
  refine zs_aload_n hE 0 rfl rfl dX4_init_9 ?_
  refine zs_iload_n hE 2 rfl rfl dX4_init_10 ?_
  refine zs_putI hE (ci := 36) (k := 1) rfl (by decide) in_X4 (Or.inl q1789) (Or.inl rfl) (Or.inr ⟨rfl, rfl, rfl⟩) (fun _ => q1789) rfl dX4_init_11 ?_
  refine zs_aload_n hE 0 rfl rfl dX4_init_14 ?_
  refine zs_aload_n hE 3 rfl rfl dX4_init_15 ?_
  refine zs_putR hE (ci := 36) (k := 2) rfl (by decide) in_X4 (Or.inl q1791) (Or.inl rfl) (Or.inr ⟨rfl, rfl, rfl⟩) (fun _ => q1791) (tyX4_ok 2 (by decide)) (Or.inl ⟨_, rfl⟩) dX4_init_16 ?_
  exact zs_vret hE dX4_init_19
theorem hd_X4_init : (yX4_init).cls ≠ "java/lang/invoke/MethodHandle" ∧ (yX4_init).cls ≠ "java/lang/invoke/VarHandle" ∧ (parseMethodDescriptor (yX4_init).desc).map (fun d => d.parameters.length) = some 3 := by decide +kernel
theorem met_X4_init (K : ZK) (this : Nat) (a1 : Int32) (a2 : Int32) (a3 : Option Nat) : zMeth K yX4_init (zws yX4_init cX4_init 4 none) 1 100 [.ref this, .int a1, .int a2, va_rf a3] encV (s_X4_init K this a1 a2 a3) :=
  fun l G hl hK => zmet_of hl hK (by decide +kernel) rfl rfl (by simp [zsl_nil, zsl_rf, zsl_r, zsl_i, zsl_j, zsl_f, zsl_d]) (fun x hE => by simp only [zla_nil, zla_rf, zla_r, zla_i, zla_j, zla_f, zla_d, Nat.reduceAdd]; exact sm_X4_init hE this a1 a2 a3)
theorem sm_X1_refuse {x : ZX Unit} {K : ZK} (hE : zE x K cX1_refuse RX1 "refuse" 4 6 123 encV none []) (this : Nat) (a1 : Int32) (a2 : Int32) (a3 : Int32) : zS x 0 [(0, va_rf (some this)), (1, .int a1), (2, .int a2), (3, .int a3)] [] (s_X1_refuse K this a1 a2 a3) := by
  unfold s_X1_refuse
  refine zs_iload_n hE 1 rfl rfl dX1_refuse_0 ?_
  refine zs_if_eq hE 26 (by decide) dX1_refuse_1 ?_ ?_
  · exact zs_vret hE dX1_refuse_26
  · refine zs_aload_n hE 0 rfl rfl dX1_refuse_4 ?_
    refine zs_new hE (ci := 36) (fs := [.int 0, .int 0, .null]) rfl in_X4 tyX4 tyX4_ok q1781 q1782 q106 (fun j hj => by rcases (show j = 0 ∨ j = 1 ∨ j = 2 by omega) with rfl | rfl | rfl <;> rfl) dX1_refuse_5 (fun q1 => ?_)
    refine zs_dup hE (zcat_rf _) dX1_refuse_8 ?_
    refine zs_iload_n hE 2 rfl rfl dX1_refuse_9 ?_
    refine zs_iload_n hE 3 rfl rfl dX1_refuse_10 ?_
    refine zs_null hE dX1_refuse_11 ?_
    refine zs_callI hE (As := [.int a2, .int a3, va_rf none]) (encA := encV) (met_X4_init K q1 a2 a3 none) q1785 q106 q1783 q1784 rfl hd_X4_init (by decide) (by decide) rfl (by simp [zcat_rf, zcat_i, zcat_j, zcat_f, zcat_d]) (fun z hz => by cases hz) dX1_refuse_12 (fun _ => ?_)
    show zS _ 15 _ [va_rf (some q1), va_rf (some this)] _
    refine zs_putR hE (ci := 24) (k := 7) rfl (by decide) in_X1 (Or.inl q398) (Or.inl rfl) (Or.inl rfl) (fun h => nomatch h) (tyX1_ok 7 (by decide)) (Or.inl ⟨_, rfl⟩) dX1_refuse_15 ?_
    exact zs_throw hE (ik := 46) (ic := 48) (ci := 0) (by decide) (by decide +kernel) q1800 q110 zth_0 zthg_0 (by decide) (by decide) (fun z hz => by cases hz) dX1_refuse_18 dX1_refuse_21 dX1_refuse_22 dX1_refuse_25
theorem hd_X1_refuse : (yX1_refuse).cls ≠ "java/lang/invoke/MethodHandle" ∧ (yX1_refuse).cls ≠ "java/lang/invoke/VarHandle" ∧ (parseMethodDescriptor (yX1_refuse).desc).map (fun d => d.parameters.length) = some 3 := by decide +kernel
theorem met_X1_refuse (K : ZK) (this : Nat) (a1 : Int32) (a2 : Int32) (a3 : Int32) : zMeth K yX1_refuse (zws yX1_refuse cX1_refuse 4 none) 6 123 [.ref this, .int a1, .int a2, .int a3] encV (s_X1_refuse K this a1 a2 a3) :=
  fun l G hl hK => zmet_of hl hK (by decide +kernel) rfl rfl (by simp [zsl_nil, zsl_rf, zsl_r, zsl_i, zsl_j, zsl_f, zsl_d]) (fun x hE => by simp only [zla_nil, zla_rf, zla_r, zla_i, zla_j, zla_f, zla_d, Nat.reduceAdd]; exact sm_X1_refuse hE this a1 a2 a3)
theorem sm_X1_inRange_J15 {x : ZX Unit} {K : ZK} (hE : zE x K cX1_inRange RX1 "inRange" 4 7 146 encV none []) (x1 : Int32) (t0 : Int32) (t1 : Nat) : zS x 15 [(1, .int x1)] [.int t0, va_rf (some t1)] (s_X1_inRange_J15 K x1 t0 t1) := by
  unfold s_X1_inRange_J15
  refine zs_iconst hE (v := (1 : Int32)) (by decide) dX1_inRange_15 ?_
  refine zs_iload_n hE 0 rfl rfl dX1_inRange_16 ?_
  refine zs_callV hE (As := [.int t0, .int (1 : Int32), .int x1]) (encA := encV) (ci := 24) rfl (fun y0 => met_X1_refuse K y0 t0 (1 : Int32) x1) q1780 q95 q1777 q1779 (zq qs11) hd_X1_refuse (by decide) (by decide) rfl (by simp [zcat_rf, zcat_i, zcat_j, zcat_f, zcat_d]) (fun z hz => by cases hz) dX1_inRange_17 (fun _ => ?_)
  show zS _ 20 _ [] _
  exact zs_vret hE dX1_inRange_20
theorem sm_X1_inRange {x : ZX Unit} {K : ZK} (hE : zE x K cX1_inRange RX1 "inRange" 4 7 146 encV none []) (this : Nat) (a1 : Int32) (a2 : Int32) (a3 : Int32) : zS x 0 [(0, va_rf (some this)), (1, .int a1), (2, .int a2), (3, .int a3)] [] (s_X1_inRange K this a1 a2 a3) := by
  unfold s_X1_inRange
  refine zs_aload_n hE 0 rfl rfl dX1_inRange_0 ?_
  refine zs_iload_n hE 1 rfl rfl dX1_inRange_1 ?_
  refine zs_iload_n hE 2 rfl rfl dX1_inRange_2 ?_
  refine zs_iload_n hE 3 rfl rfl dX1_inRange_3 ?_
  refine zs_callS hE (As := [.int a1, .int a2, .int a3]) (encA := encI) (met_X1_isBetween K a1 a2 a3) q1776 q95 q1774 q1775 hd_X1_isBetween (by decide) (by decide) rfl (by simp [zcat_rf, zcat_i, zcat_j, zcat_f, zcat_d]) (fun z hz => by cases hz) dX1_inRange_4 (fun r1 => ?_)
  show zS _ 7 _ [.int r1, va_rf (some this)] _
  refine zs_if_ne hE 14 (by decide) dX1_inRange_7 ?_ ?_
  · refine zs_iconst hE (v := (1 : Int32)) (by decide) dX1_inRange_10 ?_
    refine zs_goto hE 15 (by decide) dX1_inRange_11 ?_
    refine zs_sub [1] rfl ?_
    exact sm_X1_inRange_J15 hE a1 (1 : Int32) this
  · refine zs_iconst hE (v := (0 : Int32)) (by decide) dX1_inRange_14 ?_
    refine zs_sub [1] rfl ?_
    exact sm_X1_inRange_J15 hE a1 (0 : Int32) this
theorem hd_X1_inRange : (yX1_inRange).cls ≠ "java/lang/invoke/MethodHandle" ∧ (yX1_inRange).cls ≠ "java/lang/invoke/VarHandle" ∧ (parseMethodDescriptor (yX1_inRange).desc).map (fun d => d.parameters.length) = some 3 := by decide +kernel
theorem met_X1_inRange (K : ZK) (this : Nat) (a1 : Int32) (a2 : Int32) (a3 : Int32) : zMeth K yX1_inRange (zws yX1_inRange cX1_inRange 4 none) 7 146 [.ref this, .int a1, .int a2, .int a3] encV (s_X1_inRange K this a1 a2 a3) :=
  fun l G hl hK => zmet_of hl hK (by decide +kernel) rfl rfl (by simp [zsl_nil, zsl_rf, zsl_r, zsl_i, zsl_j, zsl_f, zsl_d]) (fun x hE => by simp only [zla_nil, zla_rf, zla_r, zla_i, zla_j, zla_f, zla_d, Nat.reduceAdd]; exact sm_X1_inRange hE this a1 a2 a3)
theorem sm_J12_init__J13 {x : ZX Unit} {K : ZK} (hE : zE x K cJ12_init RJ12 "<init>" 1 1 100 encV none []) (this : Nat) : zS x 0 [(0, va_rf (some this))] [] (s_J12_init__J13 K this) := by
  unfold s_J12_init__J13
  refine zs_aload_n hE 0 rfl rfl dJ12_init_0 ?_
  refine zs_objInit hE q916 q169 q170 (by decide) (by first | decide | simp [zcat_rf, zcat_i, zcat_j, zcat_f, zcat_d]) dJ12_init_1 ?_
  exact zs_vret hE dJ12_init_4
theorem hd_J12_init__J13 : (yJ12_init).cls ≠ "java/lang/invoke/MethodHandle" ∧ (yJ12_init).cls ≠ "java/lang/invoke/VarHandle" ∧ (parseMethodDescriptor (yJ12_init).desc).map (fun d => d.parameters.length) = some 0 := by decide +kernel
theorem met_J12_init__J13 (K : ZK) (this : Nat) : zMeth K yJ12_init (zws yJ12_init cJ12_init 1 none) 1 100 [.ref this] encV (s_J12_init__J13 K this) :=
  fun l G hl hK => zmet_of hl hK (by decide +kernel) rfl rfl (by simp [zsl_nil, zsl_rf, zsl_r, zsl_i, zsl_j, zsl_f, zsl_d]) (fun x hE => by simp only [zla_nil, zla_rf, zla_r, zla_i, zla_j, zla_f, zla_d, Nat.reduceAdd]; exact sm_J12_init__J13 hE this)
theorem sm_J13_init {x : ZX Unit} {K : ZK} (hE : zE x K cJ13_init RJ13 "<init>" 2 2 120 encV none []) (this : Nat) (a1 : Int32) : zS x 0 [(0, va_rf (some this)), (1, .int a1)] [] (s_J13_init K this a1) := by
  unfold s_J13_init
  refine zs_aload_n hE 0 rfl rfl dJ13_init_0 ?_
  refine zs_callI hE (As := []) (encA := encV) (met_J12_init__J13 K this) q915 q111 q913 q914 rfl hd_J12_init__J13 (by decide) (by decide) rfl (by simp [zcat_rf, zcat_i, zcat_j, zcat_f, zcat_d]) (fun z hz => by cases hz) dJ13_init_1 (fun _ => ?_)
  show zS _ 4 _ [] _
  refine zs_aload_n hE 0 rfl rfl dJ13_init_4 ?_
  refine zs_iload_n hE 1 rfl rfl dJ13_init_5 ?_
  refine zs_putI hE (ci := 2) (k := 0) rfl (by decide) in_J13 (Or.inl q917) (Or.inl rfl) (Or.inr ⟨rfl, rfl, rfl⟩) (fun _ => q917) rfl dJ13_init_6 ?_
  exact zs_vret hE dJ13_init_9
theorem hd_J13_init : (yJ13_init).cls ≠ "java/lang/invoke/MethodHandle" ∧ (yJ13_init).cls ≠ "java/lang/invoke/VarHandle" ∧ (parseMethodDescriptor (yJ13_init).desc).map (fun d => d.parameters.length) = some 1 := by decide +kernel
theorem met_J13_init (K : ZK) (this : Nat) (a1 : Int32) : zMeth K yJ13_init (zws yJ13_init cJ13_init 2 none) 2 120 [.ref this, .int a1] encV (s_J13_init K this a1) :=
  fun l G hl hK => zmet_of hl hK (by decide +kernel) rfl rfl (by simp [zsl_nil, zsl_rf, zsl_r, zsl_i, zsl_j, zsl_f, zsl_d]) (fun x hE => by simp only [zla_nil, zla_rf, zla_r, zla_i, zla_j, zla_f, zla_d, Nat.reduceAdd]; exact sm_J13_init hE this a1)
theorem sm_J13_valueOf_J23 {x : ZX (Option Nat)} {K : ZK} (hE : zE x K cJ13_valueOf RJ13 "valueOf" 1 3 141 encR (Option.some (Jvm.ClassFile.FieldType.object "java/lang/Integer")) []) (x0 : Int32) : zS x 23 [(0, .int x0)] [] (s_J13_valueOf_J23 K x0) := by
  unfold s_J13_valueOf_J23
  refine zs_new hE (ci := 2) (fs := [.int 0]) rfl in_J13 tyJ13 tyJ13_ok q536 q909 q112 (fun j hj => by rcases (show j = 0 by omega) with rfl; rfl) dJ13_valueOf_23 (fun q1 => ?_)
  refine zs_dup hE (zcat_rf _) dJ13_valueOf_26 ?_
  refine zs_iload_n hE 0 rfl rfl dJ13_valueOf_27 ?_
  refine zs_callI hE (As := [.int x0]) (encA := encV) (met_J13_init K q1 x0) q912 q112 q910 q911 rfl hd_J13_init (by decide) (by decide) rfl (by simp [zcat_rf, zcat_i, zcat_j, zcat_f, zcat_d]) (fun z hz => by cases hz) dJ13_valueOf_28 (fun _ => ?_)
  show zS _ 31 _ [va_rf (some q1)] _
  exact zs_aret hE (Or.inl ⟨_, rfl⟩) dJ13_valueOf_31
theorem sm_J13_valueOf {x : ZX (Option Nat)} {K : ZK} (hE : zE x K cJ13_valueOf RJ13 "valueOf" 1 3 141 encR (Option.some (Jvm.ClassFile.FieldType.object "java/lang/Integer")) []) (a1 : Int32) : zS x 0 [(0, .int a1)] [] (s_J13_valueOf K a1) := by
  unfold s_J13_valueOf
  refine zs_iload_n hE 0 rfl rfl dJ13_valueOf_0 ?_
  refine zs_bipush hE (v := (-128 : Int32)) (by decide) dJ13_valueOf_1 ?_
  refine zs_icmp_lt hE 23 (by decide) dJ13_valueOf_3 ?_ ?_
  · exact sm_J13_valueOf_J23 hE a1
  · refine zs_iload_n hE 0 rfl rfl dJ13_valueOf_6 ?_
    refine zs_gets hE (C := "java/lang/Integer$IntegerCache") (v := .int (127 : Int32)) (by simp [zST]) q905 (Or.inl rfl) dJ13_valueOf_7 ?_
    refine zs_icmp_gt hE 23 (by decide) dJ13_valueOf_10 ?_ ?_
    · exact sm_J13_valueOf_J23 hE a1
    · refine zs_gets hE (C := "java/lang/Integer$IntegerCache") (v := .ref (K.1 0)) (by simp [zST]) q907 (Or.inl rfl) dJ13_valueOf_13 ?_
      show zS _ 16 _ (va_rf (some (K.1 0)) :: _) _
      refine zs_iload_n hE 0 rfl rfl dJ13_valueOf_16 ?_
      refine zs_sipush hE (v := (128 : Int32)) (by decide) dJ13_valueOf_17 ?_
      refine zs_iadd hE dJ13_valueOf_20 ?_
      refine zs_aldRK hE dJ13_valueOf_21 (fun v2 => ?_)
      exact zs_aret hE (Or.inl ⟨_, rfl⟩) dJ13_valueOf_22
theorem hd_J13_valueOf : (yJ13_valueOf).cls ≠ "java/lang/invoke/MethodHandle" ∧ (yJ13_valueOf).cls ≠ "java/lang/invoke/VarHandle" ∧ (parseMethodDescriptor (yJ13_valueOf).desc).map (fun d => d.parameters.length) = some 1 := by decide +kernel
theorem met_J13_valueOf (K : ZK) (a1 : Int32) : zMeth K yJ13_valueOf (zws yJ13_valueOf cJ13_valueOf 1 (Option.some (Jvm.ClassFile.FieldType.object "java/lang/Integer"))) 3 141 [.int a1] encR (s_J13_valueOf K a1) :=
  fun l G hl hK => zmet_of hl hK (by decide +kernel) rfl rfl (by simp [zsl_nil, zsl_rf, zsl_r, zsl_i, zsl_j, zsl_f, zsl_d]) (fun x hE => by simp only [zla_nil, zla_rf, zla_r, zla_i, zla_j, zla_f, zla_d, Nat.reduceAdd]; exact sm_J13_valueOf hE a1)
theorem sm_J14_requireNonNull {x : ZX (Option Nat)} {K : ZK} (hE : zE x K cJ14_requireNonNull RJ14 "requireNonNull" 1 1 100 encR (Option.some (Jvm.ClassFile.FieldType.object "java/lang/Object")) []) (a1 : Option Nat) : zS x 0 [(0, va_rf a1)] [] (s_J14_requireNonNull K a1) := by
  unfold s_J14_requireNonNull
  refine zs_aload_n hE 0 rfl rfl dJ14_requireNonNull_0 ?_
  refine zs_ifnonnull hE 12 (by decide) dJ14_requireNonNull_1 ?_ ?_
  · exact zs_bad
  · refine zs_aload_n hE 0 rfl rfl dJ14_requireNonNull_12 ?_
    exact zs_aret hE (Or.inl ⟨_, rfl⟩) dJ14_requireNonNull_13
theorem hd_J14_requireNonNull : (yJ14_requireNonNull).cls ≠ "java/lang/invoke/MethodHandle" ∧ (yJ14_requireNonNull).cls ≠ "java/lang/invoke/VarHandle" ∧ (parseMethodDescriptor (yJ14_requireNonNull).desc).map (fun d => d.parameters.length) = some 1 := by decide +kernel
theorem met_J14_requireNonNull (K : ZK) (a1 : Option Nat) : zMeth K yJ14_requireNonNull (zws yJ14_requireNonNull cJ14_requireNonNull 1 (Option.some (Jvm.ClassFile.FieldType.object "java/lang/Object"))) 1 100 [va_rf a1] encR (s_J14_requireNonNull K a1) :=
  fun l G hl hK => zmet_of hl hK (by decide +kernel) rfl rfl (by simp [zsl_nil, zsl_rf, zsl_r, zsl_i, zsl_j, zsl_f, zsl_d]) (fun x hE => by simp only [zla_nil, zla_rf, zla_r, zla_i, zla_j, zla_f, zla_d, Nat.reduceAdd]; exact sm_J14_requireNonNull hE a1)
theorem sm_J13_compare {x : ZX Int32} {K : ZK} (hE : zE x K cJ13_compare RJ13 "compare" 2 1 100 encI (Option.some Jvm.ClassFile.FieldType.int) []) (a1 : Int32) (a2 : Int32) : zS x 0 [(0, .int a1), (1, .int a2)] [] (s_J13_compare K a1 a2) := by
  unfold s_J13_compare
  refine zs_iload_n hE 0 rfl rfl dJ13_compare_0 ?_
  refine zs_iload_n hE 1 rfl rfl dJ13_compare_1 ?_
  refine zs_icmp_ge hE 9 (by decide) dJ13_compare_2 ?_ ?_
  · refine zs_iload_n hE 0 rfl rfl dJ13_compare_9 ?_
    refine zs_iload_n hE 1 rfl rfl dJ13_compare_10 ?_
    refine zs_icmp_ne hE 18 (by decide) dJ13_compare_11 ?_ ?_
    · refine zs_iconst hE (v := (0 : Int32)) (by decide) dJ13_compare_14 ?_
      refine zs_goto hE 19 (by decide) dJ13_compare_15 ?_
      exact zs_iret hE dJ13_compare_19
    · refine zs_iconst hE (v := (1 : Int32)) (by decide) dJ13_compare_18 ?_
      exact zs_iret hE dJ13_compare_19
  · refine zs_iconst hE (v := (-1 : Int32)) (by decide) dJ13_compare_5 ?_
    refine zs_goto hE 19 (by decide) dJ13_compare_6 ?_
    exact zs_iret hE dJ13_compare_19
theorem hd_J13_compare : (yJ13_compare).cls ≠ "java/lang/invoke/MethodHandle" ∧ (yJ13_compare).cls ≠ "java/lang/invoke/VarHandle" ∧ (parseMethodDescriptor (yJ13_compare).desc).map (fun d => d.parameters.length) = some 2 := by decide +kernel
theorem met_J13_compare (K : ZK) (a1 : Int32) (a2 : Int32) : zMeth K yJ13_compare (zws yJ13_compare cJ13_compare 2 (Option.some Jvm.ClassFile.FieldType.int)) 1 100 [.int a1, .int a2] encI (s_J13_compare K a1 a2) :=
  fun l G hl hK => zmet_of hl hK (by decide +kernel) rfl rfl (by simp [zsl_nil, zsl_rf, zsl_r, zsl_i, zsl_j, zsl_f, zsl_d]) (fun x hE => by simp only [zla_nil, zla_rf, zla_r, zla_i, zla_j, zla_f, zla_d, Nat.reduceAdd]; exact sm_J13_compare hE a1 a2)
theorem sm_J13_compareTo_2 {x : ZX Int32} {K : ZK} (hE : zE x K cJ13_compareTo_2 RJ13 "compareTo" 2 2 121 encI (Option.some Jvm.ClassFile.FieldType.int) []) (this : Nat) (a1 : Option Nat) : zS x 0 [(0, va_rf (some this)), (1, va_rf a1)] [] (s_J13_compareTo_2 K this a1) := by
  unfold s_J13_compareTo_2
  refine zs_aload_n hE 0 rfl rfl dJ13_compareTo_2_0 ?_
  refine zs_getIK hE (ci := 2) (k := 0) rfl (by decide) in_J13 (Or.inl q917) (Or.inl rfl) dJ13_compareTo_2_1 (fun v1 => ?_)
  refine zs_aload_n hE 1 rfl rfl dJ13_compareTo_2_4 ?_
  refine zs_getIK hE (ci := 2) (k := 0) rfl (by decide) in_J13 (Or.inl q917) (Or.inl rfl) dJ13_compareTo_2_5 (fun v2 => ?_)
  refine zs_callS hE (As := [.int v1, .int v2]) (encA := encI) (met_J13_compare K v1 v2) q543 q112 q541 q542 hd_J13_compare (by decide) (by decide) rfl (by simp [zcat_rf, zcat_i, zcat_j, zcat_f, zcat_d]) (fun z hz => by cases hz) dJ13_compareTo_2_8 (fun r3 => ?_)
  show zS _ 11 _ [.int r3] _
  exact zs_iret hE dJ13_compareTo_2_11
theorem hd_J13_compareTo_2 : (yJ13_compareTo_2).cls ≠ "java/lang/invoke/MethodHandle" ∧ (yJ13_compareTo_2).cls ≠ "java/lang/invoke/VarHandle" ∧ (parseMethodDescriptor (yJ13_compareTo_2).desc).map (fun d => d.parameters.length) = some 1 := by decide +kernel
theorem met_J13_compareTo_2 (K : ZK) (this : Nat) (a1 : Option Nat) : zMeth K yJ13_compareTo_2 (zws yJ13_compareTo_2 cJ13_compareTo_2 2 (Option.some Jvm.ClassFile.FieldType.int)) 2 121 [.ref this, va_rf a1] encI (s_J13_compareTo_2 K this a1) :=
  fun l G hl hK => zmet_of hl hK (by decide +kernel) rfl rfl (by simp [zsl_nil, zsl_rf, zsl_r, zsl_i, zsl_j, zsl_f, zsl_d]) (fun x hE => by simp only [zla_nil, zla_rf, zla_r, zla_i, zla_j, zla_f, zla_d, Nat.reduceAdd]; exact sm_J13_compareTo_2 hE this a1)
theorem sm_J13_compareTo {x : ZX Int32} {K : ZK} (hE : zE x K cJ13_compareTo RJ13 "compareTo" 2 3 142 encI (Option.some Jvm.ClassFile.FieldType.int) []) (this : Nat) (a1 : Option Nat) : zS x 0 [(0, va_rf (some this)), (1, va_rf a1)] [] (s_J13_compareTo K this a1) := by
  unfold s_J13_compareTo
  refine zs_aload_n hE 0 rfl rfl dJ13_compareTo_0 ?_
  refine zs_aload_n hE 1 rfl rfl dJ13_compareTo_1 ?_
  refine zs_castK hE q536 (zc1 rfl (Or.inl rfl)) dJ13_compareTo_2 ?_
  refine zs_callVK hE (As := [va_rf a1]) (encA := encI) (ci := 2) rfl (fun y0 => met_J13_compareTo_2 K y0 a1) q540 q112 q537 q538 (zq q539) hd_J13_compareTo_2 (by decide) (by decide) rfl (by simp [zcat_rf, zcat_i, zcat_j, zcat_f, zcat_d]) (fun z hz => by cases hz) dJ13_compareTo_5 (fun r1 => ?_)
  show zS _ 8 _ [.int r1] _
  exact zs_iret hE dJ13_compareTo_8
theorem hd_J13_compareTo : (yJ13_compareTo).cls ≠ "java/lang/invoke/MethodHandle" ∧ (yJ13_compareTo).cls ≠ "java/lang/invoke/VarHandle" ∧ (parseMethodDescriptor (yJ13_compareTo).desc).map (fun d => d.parameters.length) = some 1 := by decide +kernel
theorem met_J13_compareTo (K : ZK) (this : Nat) (a1 : Option Nat) : zMeth K yJ13_compareTo (zws yJ13_compareTo cJ13_compareTo 2 (Option.some Jvm.ClassFile.FieldType.int)) 3 142 [.ref this, va_rf a1] encI (s_J13_compareTo K this a1) :=
  fun l G hl hK => zmet_of hl hK (by decide +kernel) rfl rfl (by simp [zsl_nil, zsl_rf, zsl_r, zsl_i, zsl_j, zsl_f, zsl_d]) (fun x hE => by simp only [zla_nil, zla_rf, zla_r, zla_i, zla_j, zla_f, zla_d, Nat.reduceAdd]; exact sm_J13_compareTo hE this a1)
theorem sm_J1_getEntryUsingComparator_B17 {x : ZX (Option Nat)} {K : ZK} (hE : zE x K cJ1_getEntryUsingComparator RJ1 "getEntryUsingComparator" 6 1 100 encR (Option.some (Jvm.ClassFile.FieldType.object "java/util/TreeMap$Entry")) []) (x2 : Option Nat) (x3 : Option Nat) (self17 : (Option Nat) → ZP (Option Nat)) (hs17 : ∀ v : Option Nat, zS x 17 [(2, va_rf x2), (3, va_rf x3), (4, va_rf v)] [] (self17 v)) (x4 : Option Nat) : zS x 17 [(2, va_rf x2), (3, va_rf x3), (4, va_rf x4)] [] (s_J1_getEntryUsingComparator_B17 K x2 x3 self17 x4) := by
  unfold s_J1_getEntryUsingComparator_B17
  refine zs_aload hE 2 rfl dJ1_getEntryUsingComparator_17 ?_
  refine zs_ifnull hE 72 (by decide) dJ1_getEntryUsingComparator_19 ?_ ?_
  · refine zs_null hE dJ1_getEntryUsingComparator_72 ?_
    exact zs_aret hE (Or.inl ⟨_, rfl⟩) dJ1_getEntryUsingComparator_73
  · refine zs_aload_n hE 1 rfl rfl dJ1_getEntryUsingComparator_22 ?_
    refine zs_aload_n hE 0 rfl rfl dJ1_getEntryUsingComparator_23 ?_
    refine zs_aload hE 2 rfl dJ1_getEntryUsingComparator_24 ?_
    refine zs_getR hE (ci := 12) (k := 0) rfl (by decide) in_J33 (Or.inl q1672) (Or.inl rfl) dJ1_getEntryUsingComparator_26 (fun v3 => ?_)
    exact zs_bad
theorem sm_J1_getEntryUsingComparator_L17 {x : ZX (Option Nat)} {K : ZK} (hE : zE x K cJ1_getEntryUsingComparator RJ1 "getEntryUsingComparator" 6 1 100 encR (Option.some (Jvm.ClassFile.FieldType.object "java/util/TreeMap$Entry")) []) (x2 : Option Nat) (x3 : Option Nat) (v : Option Nat) : zS x 17 [(2, va_rf x2), (3, va_rf x3), (4, va_rf v)] [] (s_J1_getEntryUsingComparator_L17 K x2 x3 v) := by
  unfold s_J1_getEntryUsingComparator_L17
  exact zs_loop (lvf := fun v => [(2, va_rf x2), (3, va_rf x3), (4, va_rf v)]) (fun self17 hs17 v => sm_J1_getEntryUsingComparator_B17 hE x2 x3 self17 hs17 v) v
theorem sm_J1_getEntryUsingComparator {x : ZX (Option Nat)} {K : ZK} (hE : zE x K cJ1_getEntryUsingComparator RJ1 "getEntryUsingComparator" 6 1 100 encR (Option.some (Jvm.ClassFile.FieldType.object "java/util/TreeMap$Entry")) []) (this : Nat) (a1 : Option Nat) : zS x 0 [(0, va_rf (some this)), (1, va_rf a1)] [] (s_J1_getEntryUsingComparator K this a1) := by
  unfold s_J1_getEntryUsingComparator
  refine zs_aload_n hE 1 rfl rfl dJ1_getEntryUsingComparator_0 ?_
  refine zs_astore_n hE (i := 2) (q := 2) rfl (by decide) (zcat_rf a1) (lv' := [(0, va_rf (some this)), (1, va_rf a1)]) rfl dJ1_getEntryUsingComparator_1 ?_
  refine zs_aload_n hE 1 rfl rfl dJ1_getEntryUsingComparator_2 ?_
  refine zs_getR hE (ci := 0) (k := 2) rfl (by decide) in_J1 (Or.inl q186) (Or.inl rfl) dJ1_getEntryUsingComparator_3 (fun v1 => ?_)
  refine zs_astore_n hE (i := 3) (q := 3) rfl (by decide) (zcat_rf a1) (lv' := [(2, va_rf a1), (0, va_rf (some this)), (1, va_rf a1)]) rfl dJ1_getEntryUsingComparator_6 ?_
  refine zs_aload_n hE 0 rfl rfl dJ1_getEntryUsingComparator_7 ?_
  refine zs_ifnull hE 72 (by decide) dJ1_getEntryUsingComparator_8 ?_ ?_
  · refine zs_null hE dJ1_getEntryUsingComparator_72 ?_
    exact zs_aret hE (Or.inl ⟨_, rfl⟩) dJ1_getEntryUsingComparator_73
  · refine zs_aload_n hE 2 rfl rfl dJ1_getEntryUsingComparator_11 ?_
    refine zs_getR hE (ci := 0) (k := 3) rfl (by decide) in_J1 (Or.inl q187) (Or.inl rfl) dJ1_getEntryUsingComparator_12 (fun v2 => ?_)
    refine zs_astore hE (i := 4) (by decide) (zcat_rf v1) (lv' := [(3, va_rf v1), (2, va_rf a1), (0, va_rf (some this)), (1, va_rf a1)]) rfl dJ1_getEntryUsingComparator_15 ?_
    refine zs_sub [2, 1, 0] rfl ?_
    exact sm_J1_getEntryUsingComparator_L17 hE a1 v1 v2
theorem hd_J1_getEntryUsingComparator : (yJ1_getEntryUsingComparator).cls ≠ "java/lang/invoke/MethodHandle" ∧ (yJ1_getEntryUsingComparator).cls ≠ "java/lang/invoke/VarHandle" ∧ (parseMethodDescriptor (yJ1_getEntryUsingComparator).desc).map (fun d => d.parameters.length) = some 1 := by decide +kernel
theorem met_J1_getEntryUsingComparator (K : ZK) (this : Nat) (a1 : Option Nat) : zMeth K yJ1_getEntryUsingComparator (zws yJ1_getEntryUsingComparator cJ1_getEntryUsingComparator 6 (Option.some (Jvm.ClassFile.FieldType.object "java/util/TreeMap$Entry"))) 1 100 [.ref this, va_rf a1] encR (s_J1_getEntryUsingComparator K this a1) :=
  fun l G hl hK => zmet_of hl hK (by decide +kernel) rfl rfl (by simp [zsl_nil, zsl_rf, zsl_r, zsl_i, zsl_j, zsl_f, zsl_d]) (fun x hE => by simp only [zla_nil, zla_rf, zla_r, zla_i, zla_j, zla_f, zla_d, Nat.reduceAdd]; exact sm_J1_getEntryUsingComparator hE this a1)
theorem sm_J1_getEntry_B28 {x : ZX (Option Nat)} {K : ZK} (hE : zE x K cJ1_getEntry RJ1 "getEntry" 5 4 163 encR (Option.some (Jvm.ClassFile.FieldType.object "java/util/TreeMap$Entry")) []) (x2 : Option Nat) (self28 : (Option Nat) → ZP (Option Nat)) (hs28 : ∀ v : Option Nat, zS x 28 [(2, va_rf x2), (3, va_rf v)] [] (self28 v)) (x3 : Option Nat) : zS x 28 [(2, va_rf x2), (3, va_rf x3)] [] (s_J1_getEntry_B28 K x2 self28 x3) := by
  unfold s_J1_getEntry_B28
  refine zs_aload_n hE 1 rfl rfl dJ1_getEntry_28 ?_
  refine zs_ifnull hE 75 (by decide) dJ1_getEntry_29 ?_ ?_
  · refine zs_null hE dJ1_getEntry_75 ?_
    exact zs_aret hE (Or.inl ⟨_, rfl⟩) dJ1_getEntry_76
  · refine zs_aload_n hE 0 rfl rfl dJ1_getEntry_32 ?_
    refine zs_aload_n hE 1 rfl rfl dJ1_getEntry_33 ?_
    refine zs_getR hE (ci := 12) (k := 0) rfl (by decide) in_J33 (Or.inl q1672) (Or.inl rfl) dJ1_getEntry_34 (fun v4 => ?_)
    refine zs_callFK hE (xx := ⟨"java/lang/Comparable", "compareTo", "(Ljava/lang/Object;)I"⟩) (As := [va_rf v4]) (encA := encI) (ci := 2) rfl (fun y0 => met_J13_compareTo K y0 v4) q535 q112 q527 (List.mem_of_getElem? (i := 9) rfl) q533 q531 hdx_h0 (by decide) (by decide) rfl (by simp [zcat_rf, zcat_i, zcat_j, zcat_f, zcat_d]) (fun z hz => by cases hz) dJ1_getEntry_37 (fun r5 => ?_)
    show zS _ 42 _ [.int r5] _
    refine zs_istore hE (i := 4) (by decide) (zcat_rf x3) (lv' := [(2, va_rf x2), (3, va_rf x3)]) rfl dJ1_getEntry_42 ?_
    refine zs_iload hE 0 rfl dJ1_getEntry_44 ?_
    refine zs_if_ge hE 57 (by decide) dJ1_getEntry_46 ?_ ?_
    · refine zs_iload hE 0 rfl dJ1_getEntry_57 ?_
      refine zs_if_le hE 70 (by decide) dJ1_getEntry_59 ?_ ?_
      · refine zs_aload_n hE 2 rfl rfl dJ1_getEntry_70 ?_
        exact zs_aret hE (Or.inl ⟨_, rfl⟩) dJ1_getEntry_71
      · refine zs_aload_n hE 2 rfl rfl dJ1_getEntry_62 ?_
        refine zs_getR hE (ci := 12) (k := 3) rfl (by decide) in_J33 (Or.inl q1677) (Or.inl rfl) dJ1_getEntry_63 (fun v6 => ?_)
        refine zs_astore_n hE (i := 3) (q := 3) rfl (by decide) (zcat_rf x2) (lv' := [(4, .int r5), (2, va_rf x2)]) rfl dJ1_getEntry_66 ?_
        refine zs_goto hE 72 (by decide) dJ1_getEntry_67 ?_
        refine zs_goto hE 28 (by decide) dJ1_getEntry_72 ?_
        refine zs_sub [2, 0] rfl ?_
        exact hs28 v6
    · refine zs_aload_n hE 2 rfl rfl dJ1_getEntry_49 ?_
      refine zs_getR hE (ci := 12) (k := 2) rfl (by decide) in_J33 (Or.inl q1676) (Or.inl rfl) dJ1_getEntry_50 (fun v7 => ?_)
      refine zs_astore_n hE (i := 3) (q := 3) rfl (by decide) (zcat_rf x2) (lv' := [(4, .int r5), (2, va_rf x2)]) rfl dJ1_getEntry_53 ?_
      refine zs_goto hE 72 (by decide) dJ1_getEntry_54 ?_
      refine zs_goto hE 28 (by decide) dJ1_getEntry_72 ?_
      refine zs_sub [2, 0] rfl ?_
      exact hs28 v7
theorem sm_J1_getEntry_L28 {x : ZX (Option Nat)} {K : ZK} (hE : zE x K cJ1_getEntry RJ1 "getEntry" 5 4 163 encR (Option.some (Jvm.ClassFile.FieldType.object "java/util/TreeMap$Entry")) []) (x2 : Option Nat) (v : Option Nat) : zS x 28 [(2, va_rf x2), (3, va_rf v)] [] (s_J1_getEntry_L28 K x2 v) := by
  unfold s_J1_getEntry_L28
  exact zs_loop (lvf := fun v => [(2, va_rf x2), (3, va_rf v)]) (fun self28 hs28 v => sm_J1_getEntry_B28 hE x2 self28 hs28 v) v
theorem sm_J1_getEntry {x : ZX (Option Nat)} {K : ZK} (hE : zE x K cJ1_getEntry RJ1 "getEntry" 5 4 163 encR (Option.some (Jvm.ClassFile.FieldType.object "java/util/TreeMap$Entry")) []) (this : Nat) (a1 : Option Nat) : zS x 0 [(0, va_rf (some this)), (1, va_rf a1)] [] (s_J1_getEntry K this a1) := by
  unfold s_J1_getEntry
  refine zs_aload_n hE 0 rfl rfl dJ1_getEntry_0 ?_
  refine zs_getR hE (ci := 0) (k := 2) rfl (by decide) in_J1 (Or.inl q186) (Or.inl rfl) dJ1_getEntry_1 (fun v1 => ?_)
  refine zs_ifnull hE 13 (by decide) dJ1_getEntry_4 ?_ ?_
  · refine zs_aload_n hE 1 rfl rfl dJ1_getEntry_13 ?_
    refine zs_callS hE (As := [va_rf a1]) (encA := encR) (met_J14_requireNonNull K a1) q1026 q114 q1024 q1025 hd_J14_requireNonNull (by decide) (by decide) rfl (by simp [zcat_rf, zcat_i, zcat_j, zcat_f, zcat_d]) (fun z hz => by cases hz) dJ1_getEntry_14 (fun r2 => ?_)
    show zS _ 17 _ [va_rf r2] _
    refine zs_pop hE (zcat_rf _) dJ1_getEntry_17 ?_
    refine zs_aload_n hE 1 rfl rfl dJ1_getEntry_18 ?_
    refine zs_castK hE q525 (zc1 rfl (Or.inr (zn q530 rfl))) dJ1_getEntry_19 ?_
    refine zs_astore_n hE (i := 2) (q := 2) rfl (by decide) (zcat_rf a1) (lv' := [(0, va_rf (some this)), (1, va_rf a1)]) rfl dJ1_getEntry_22 ?_
    refine zs_aload_n hE 1 rfl rfl dJ1_getEntry_23 ?_
    refine zs_getR hE (ci := 0) (k := 3) rfl (by decide) in_J1 (Or.inl q187) (Or.inl rfl) dJ1_getEntry_24 (fun v3 => ?_)
    refine zs_astore_n hE (i := 3) (q := 3) rfl (by decide) (zcat_rf a1) (lv' := [(2, va_rf a1), (0, va_rf (some this)), (1, va_rf a1)]) rfl dJ1_getEntry_27 ?_
    refine zs_sub [1, 0] rfl ?_
    exact sm_J1_getEntry_L28 hE a1 v3
  · refine zs_aload_n hE 0 rfl rfl dJ1_getEntry_7 ?_
    refine zs_aload_n hE 1 rfl rfl dJ1_getEntry_8 ?_
    refine zs_callV hE (As := [va_rf a1]) (encA := encR) (ci := 0) rfl (fun y0 => met_J1_getEntryUsingComparator K y0 a1) q1023 q98 q1020 q1021 (zq q1022) hd_J1_getEntryUsingComparator (by decide) (by decide) rfl (by simp [zcat_rf, zcat_i, zcat_j, zcat_f, zcat_d]) (fun z hz => by cases hz) dJ1_getEntry_9 (fun r8 => ?_)
    show zS _ 12 _ [va_rf r8] _
    exact zs_aret hE (Or.inl ⟨_, rfl⟩) dJ1_getEntry_12
theorem hd_J1_getEntry : (yJ1_getEntry).cls ≠ "java/lang/invoke/MethodHandle" ∧ (yJ1_getEntry).cls ≠ "java/lang/invoke/VarHandle" ∧ (parseMethodDescriptor (yJ1_getEntry).desc).map (fun d => d.parameters.length) = some 1 := by decide +kernel
theorem met_J1_getEntry (K : ZK) (this : Nat) (a1 : Option Nat) : zMeth K yJ1_getEntry (zws yJ1_getEntry cJ1_getEntry 5 (Option.some (Jvm.ClassFile.FieldType.object "java/util/TreeMap$Entry"))) 4 163 [.ref this, va_rf a1] encR (s_J1_getEntry K this a1) :=
  fun l G hl hK => zmet_of hl hK (by decide +kernel) rfl rfl (by simp [zsl_nil, zsl_rf, zsl_r, zsl_i, zsl_j, zsl_f, zsl_d]) (fun x hE => by simp only [zla_nil, zla_rf, zla_r, zla_i, zla_j, zla_f, zla_d, Nat.reduceAdd]; exact sm_J1_getEntry hE this a1)
theorem sm_J1_containsKey {x : ZX Int32} {K : ZK} (hE : zE x K cJ1_containsKey RJ1 "containsKey" 2 5 187 encI (Option.some Jvm.ClassFile.FieldType.boolean) []) (this : Nat) (a1 : Option Nat) : zS x 0 [(0, va_rf (some this)), (1, va_rf a1)] [] (s_J1_containsKey K this a1) := by
  unfold s_J1_containsKey
  refine zs_aload_n hE 0 rfl rfl dJ1_containsKey_0 ?_
  refine zs_aload_n hE 1 rfl rfl dJ1_containsKey_1 ?_
  refine zs_callV hE (As := [va_rf a1]) (encA := encR) (ci := 0) rfl (fun y0 => met_J1_getEntry K y0 a1) q1019 q98 q1016 q1017 (zq q1018) hd_J1_getEntry (by decide) (by decide) rfl (by simp [zcat_rf, zcat_i, zcat_j, zcat_f, zcat_d]) (fun z hz => by cases hz) dJ1_containsKey_2 (fun r1 => ?_)
  show zS _ 5 _ [va_rf r1] _
  refine zs_ifnull hE 12 (by decide) dJ1_containsKey_5 ?_ ?_
  · refine zs_iconst hE (v := (0 : Int32)) (by decide) dJ1_containsKey_12 ?_
    exact zs_zret hE rfl dJ1_containsKey_13
  · refine zs_iconst hE (v := (1 : Int32)) (by decide) dJ1_containsKey_8 ?_
    refine zs_goto hE 13 (by decide) dJ1_containsKey_9 ?_
    exact zs_zret hE rfl dJ1_containsKey_13
theorem hd_J1_containsKey : (yJ1_containsKey).cls ≠ "java/lang/invoke/MethodHandle" ∧ (yJ1_containsKey).cls ≠ "java/lang/invoke/VarHandle" ∧ (parseMethodDescriptor (yJ1_containsKey).desc).map (fun d => d.parameters.length) = some 1 := by decide +kernel
theorem met_J1_containsKey (K : ZK) (this : Nat) (a1 : Option Nat) : zMeth K yJ1_containsKey (zws yJ1_containsKey cJ1_containsKey 2 (Option.some Jvm.ClassFile.FieldType.boolean)) 5 187 [.ref this, va_rf a1] encI (s_J1_containsKey K this a1) :=
  fun l G hl hK => zmet_of hl hK (by decide +kernel) rfl rfl (by simp [zsl_nil, zsl_rf, zsl_r, zsl_i, zsl_j, zsl_f, zsl_d]) (fun x hE => by simp only [zla_nil, zla_rf, zla_r, zla_i, zla_j, zla_f, zla_d, Nat.reduceAdd]; exact sm_J1_containsKey hE this a1)
theorem sm_X1_isStation {x : ZX Int32} {K : ZK} (hE : zE x K cX1_isStation RX1 "isStation" 2 6 208 encI (Option.some Jvm.ClassFile.FieldType.boolean) []) (this : Nat) (a1 : Int32) : zS x 0 [(0, va_rf (some this)), (1, .int a1)] [] (s_X1_isStation K this a1) := by
  unfold s_X1_isStation
  refine zs_aload_n hE 0 rfl rfl dX1_isStation_0 ?_
  refine zs_getR hE (ci := 24) (k := 0) rfl (by decide) in_X1 (Or.inl q391) (Or.inl rfl) dX1_isStation_1 (fun v1 => ?_)
  refine zs_getR hE (ci := 34) (k := 0) rfl (by decide) in_X2 (Or.inr ⟨_, zn q218 rfl⟩) (Or.inl rfl) dX1_isStation_4 (fun v2 => ?_)
  refine zs_iload_n hE 1 rfl rfl dX1_isStation_7 ?_
  refine zs_callS hE (As := [.int a1]) (encA := encR) (met_J13_valueOf K a1) q904 q112 q1819 q903 hd_J13_valueOf (by decide) (by decide) rfl (by simp [zcat_rf, zcat_i, zcat_j, zcat_f, zcat_d]) (fun z hz => by cases hz) dX1_isStation_8 (fun r3 => ?_)
  show zS _ 11 _ [va_rf r3, va_rf v2] _
  refine zs_callV hE (As := [va_rf r3]) (encA := encI) (ci := 0) rfl (fun y0 => met_J1_containsKey K y0 r3) q1823 q98 q1820 q1821 (zq q1822) hd_J1_containsKey (by decide) (by decide) rfl (by simp [zcat_rf, zcat_i, zcat_j, zcat_f, zcat_d]) (fun z hz => by cases hz) dX1_isStation_11 (fun r4 => ?_)
  show zS _ 14 _ [.int r4] _
  exact zs_zretA hE dX1_isStation_14
theorem hd_X1_isStation : (yX1_isStation).cls ≠ "java/lang/invoke/MethodHandle" ∧ (yX1_isStation).cls ≠ "java/lang/invoke/VarHandle" ∧ (parseMethodDescriptor (yX1_isStation).desc).map (fun d => d.parameters.length) = some 1 := by decide +kernel
theorem met_X1_isStation (K : ZK) (this : Nat) (a1 : Int32) : zMeth K yX1_isStation (zws yX1_isStation cX1_isStation 2 (Option.some Jvm.ClassFile.FieldType.boolean)) 6 208 [.ref this, .int a1] encI (s_X1_isStation K this a1) :=
  fun l G hl hK => zmet_of hl hK (by decide +kernel) rfl rfl (by simp [zsl_nil, zsl_rf, zsl_r, zsl_i, zsl_j, zsl_f, zsl_d]) (fun x hE => by simp only [zla_nil, zla_rf, zla_r, zla_i, zla_j, zla_f, zla_d, Nat.reduceAdd]; exact sm_X1_isStation hE this a1)
theorem sm_J1_size {x : ZX Int32} {K : ZK} (hE : zE x K cJ1_size RJ1 "size" 1 1 100 encI (Option.some Jvm.ClassFile.FieldType.int) []) (this : Nat) : zS x 0 [(0, va_rf (some this))] [] (s_J1_size K this) := by
  unfold s_J1_size
  refine zs_aload_n hE 0 rfl rfl dJ1_size_0 ?_
  refine zs_getI hE (ci := 0) (k := 4) rfl (by decide) in_J1 (Or.inl q188) (Or.inl rfl) dJ1_size_1 (fun v1 => ?_)
  exact zs_iret hE dJ1_size_4
theorem hd_J1_size : (yJ1_size).cls ≠ "java/lang/invoke/MethodHandle" ∧ (yJ1_size).cls ≠ "java/lang/invoke/VarHandle" ∧ (parseMethodDescriptor (yJ1_size).desc).map (fun d => d.parameters.length) = some 0 := by decide +kernel
theorem met_J1_size (K : ZK) (this : Nat) : zMeth K yJ1_size (zws yJ1_size cJ1_size 1 (Option.some Jvm.ClassFile.FieldType.int)) 1 100 [.ref this] encI (s_J1_size K this) :=
  fun l G hl hK => zmet_of hl hK (by decide +kernel) rfl rfl (by simp [zsl_nil, zsl_rf, zsl_r, zsl_i, zsl_j, zsl_f, zsl_d]) (fun x hE => by simp only [zla_nil, zla_rf, zla_r, zla_i, zla_j, zla_f, zla_d, Nat.reduceAdd]; exact sm_J1_size hE this)
theorem sm_X1_hasPlace_J11 {x : ZX Unit} {K : ZK} (hE : zE x K cX1_hasPlace RX1 "hasPlace" 3 7 146 encV none []) (x2 : Int32) (t0 : Int32) (t1 : Nat) : zS x 11 [(2, .int x2)] [.int t0, va_rf (some t1)] (s_X1_hasPlace_J11 K x2 t0 t1) := by
  unfold s_X1_hasPlace_J11
  refine zs_iconst hE (v := (4 : Int32)) (by decide) dX1_hasPlace_11 ?_
  refine zs_iload_n hE 0 rfl rfl dX1_hasPlace_12 ?_
  refine zs_callV hE (As := [.int t0, .int (4 : Int32), .int x2]) (encA := encV) (ci := 24) rfl (fun y0 => met_X1_refuse K y0 t0 (4 : Int32) x2) q1780 q95 q1777 q1779 (zq qs11) hd_X1_refuse (by decide) (by decide) rfl (by simp [zcat_rf, zcat_i, zcat_j, zcat_f, zcat_d]) (fun z hz => by cases hz) dX1_hasPlace_13 (fun _ => ?_)
  show zS _ 16 _ [] _
  exact zs_vret hE dX1_hasPlace_16
theorem sm_X1_hasPlace {x : ZX Unit} {K : ZK} (hE : zE x K cX1_hasPlace RX1 "hasPlace" 3 7 146 encV none []) (this : Nat) (a1 : Int32) (a2 : Int32) : zS x 0 [(0, va_rf (some this)), (1, .int a1), (2, .int a2)] [] (s_X1_hasPlace K this a1 a2) := by
  unfold s_X1_hasPlace
  refine zs_aload_n hE 0 rfl rfl dX1_hasPlace_0 ?_
  refine zs_iload_n hE 1 rfl rfl dX1_hasPlace_1 ?_
  refine zs_iload_n hE 2 rfl rfl dX1_hasPlace_2 ?_
  refine zs_icmp_ne hE 10 (by decide) dX1_hasPlace_3 ?_ ?_
  · refine zs_iconst hE (v := (1 : Int32)) (by decide) dX1_hasPlace_6 ?_
    refine zs_goto hE 11 (by decide) dX1_hasPlace_7 ?_
    refine zs_sub [2] rfl ?_
    exact sm_X1_hasPlace_J11 hE a2 (1 : Int32) this
  · refine zs_iconst hE (v := (0 : Int32)) (by decide) dX1_hasPlace_10 ?_
    refine zs_sub [2] rfl ?_
    exact sm_X1_hasPlace_J11 hE a2 (0 : Int32) this
theorem hd_X1_hasPlace : (yX1_hasPlace).cls ≠ "java/lang/invoke/MethodHandle" ∧ (yX1_hasPlace).cls ≠ "java/lang/invoke/VarHandle" ∧ (parseMethodDescriptor (yX1_hasPlace).desc).map (fun d => d.parameters.length) = some 2 := by decide +kernel
theorem met_X1_hasPlace (K : ZK) (this : Nat) (a1 : Int32) (a2 : Int32) : zMeth K yX1_hasPlace (zws yX1_hasPlace cX1_hasPlace 3 none) 7 146 [.ref this, .int a1, .int a2] encV (s_X1_hasPlace K this a1 a2) :=
  fun l G hl hK => zmet_of hl hK (by decide +kernel) rfl rfl (by simp [zsl_nil, zsl_rf, zsl_r, zsl_i, zsl_j, zsl_f, zsl_d]) (fun x hE => by simp only [zla_nil, zla_rf, zla_r, zla_i, zla_j, zla_f, zla_d, Nat.reduceAdd]; exact sm_X1_hasPlace hE this a1 a2)
theorem sm_J0_init__J1 {x : ZX Unit} {K : ZK} (hE : zE x K cJ0_init RJ0 "<init>" 1 1 100 encV none []) (this : Nat) : zS x 0 [(0, va_rf (some this))] [] (s_J0_init__J1 K this) := by
  unfold s_J0_init__J1
  refine zs_aload_n hE 0 rfl rfl dJ0_init_0 ?_
  refine zs_objInit hE q185 q169 q170 (by decide) (by first | decide | simp [zcat_rf, zcat_i, zcat_j, zcat_f, zcat_d]) dJ0_init_1 ?_
  exact zs_vret hE dJ0_init_4
theorem hd_J0_init__J1 : (yJ0_init).cls ≠ "java/lang/invoke/MethodHandle" ∧ (yJ0_init).cls ≠ "java/lang/invoke/VarHandle" ∧ (parseMethodDescriptor (yJ0_init).desc).map (fun d => d.parameters.length) = some 0 := by decide +kernel
theorem met_J0_init__J1 (K : ZK) (this : Nat) : zMeth K yJ0_init (zws yJ0_init cJ0_init 1 none) 1 100 [.ref this] encV (s_J0_init__J1 K this) :=
  fun l G hl hK => zmet_of hl hK (by decide +kernel) rfl rfl (by simp [zsl_nil, zsl_rf, zsl_r, zsl_i, zsl_j, zsl_f, zsl_d]) (fun x hE => by simp only [zla_nil, zla_rf, zla_r, zla_i, zla_j, zla_f, zla_d, Nat.reduceAdd]; exact sm_J0_init__J1 hE this)
theorem sm_J1_init {x : ZX Unit} {K : ZK} (hE : zE x K cJ1_init RJ1 "<init>" 1 2 120 encV none []) (this : Nat) : zS x 0 [(0, va_rf (some this))] [] (s_J1_init K this) := by
  unfold s_J1_init
  refine zs_aload_n hE 0 rfl rfl dJ1_init_0 ?_
  refine zs_callI hE (As := []) (encA := encV) (met_J0_init__J1 K this) q184 q97 q182 q183 rfl hd_J0_init__J1 (by decide) (by decide) rfl (by simp [zcat_rf, zcat_i, zcat_j, zcat_f, zcat_d]) (fun z hz => by cases hz) dJ1_init_1 (fun _ => ?_)
  show zS _ 4 _ [] _
  refine zs_aload_n hE 0 rfl rfl dJ1_init_4 ?_
  refine zs_iconst hE (v := (0 : Int32)) (by decide) dJ1_init_5 ?_
  refine zs_putI hE (ci := 0) (k := 4) rfl (by decide) in_J1 (Or.inl q188) (Or.inl rfl) (Or.inl rfl) (fun h => nomatch h) rfl dJ1_init_6 ?_
  refine zs_aload_n hE 0 rfl rfl dJ1_init_9 ?_
  refine zs_iconst hE (v := (0 : Int32)) (by decide) dJ1_init_10 ?_
  refine zs_putI hE (ci := 0) (k := 5) rfl (by decide) in_J1 (Or.inl q189) (Or.inl rfl) (Or.inl rfl) (fun h => nomatch h) rfl dJ1_init_11 ?_
  refine zs_aload_n hE 0 rfl rfl dJ1_init_14 ?_
  refine zs_null hE dJ1_init_15 ?_
  refine zs_putR hE (ci := 0) (k := 2) rfl (by decide) in_J1 (Or.inl q186) (Or.inl rfl) (Or.inr ⟨rfl, rfl, rfl⟩) (fun _ => q186) (tyJ1_ok 2 (by decide)) (Or.inl ⟨_, rfl⟩) dJ1_init_16 ?_
  exact zs_vret hE dJ1_init_19
theorem hd_J1_init : (yJ1_init).cls ≠ "java/lang/invoke/MethodHandle" ∧ (yJ1_init).cls ≠ "java/lang/invoke/VarHandle" ∧ (parseMethodDescriptor (yJ1_init).desc).map (fun d => d.parameters.length) = some 0 := by decide +kernel
theorem met_J1_init (K : ZK) (this : Nat) : zMeth K yJ1_init (zws yJ1_init cJ1_init 1 none) 2 120 [.ref this] encV (s_J1_init K this) :=
  fun l G hl hK => zmet_of hl hK (by decide +kernel) rfl rfl (by simp [zsl_nil, zsl_rf, zsl_r, zsl_i, zsl_j, zsl_f, zsl_d]) (fun x hE => by simp only [zla_nil, zla_rf, zla_r, zla_i, zla_j, zla_f, zla_d, Nat.reduceAdd]; exact sm_J1_init hE this)
theorem sm_X2_init {x : ZX Unit} {K : ZK} (hE : zE x K cX2_init RX2 "<init>" 1 3 140 encV none []) (this : Nat) : zS x 0 [(0, va_rf (some this))] [] (s_X2_init K this) := by
  unfold s_X2_init
  refine zs_aload_n hE 0 rfl rfl dX2_init_0 ?_
  refine zs_objInit hE q176 q169 q170 (by decide) (by first | decide | simp [zcat_rf, zcat_i, zcat_j, zcat_f, zcat_d]) dX2_init_1 ?_
  refine zs_aload_n hE 0 rfl rfl dX2_init_4 ?_
  refine zs_new hE (ci := 0) (fs := [.null, .null, .null, .null, .int 0, .int 0, .null, .null, .null]) rfl in_J1 tyJ1 tyJ1_ok q177 q178 q98 (fun j hj => by rcases (show j = 0 ∨ j = 1 ∨ j = 2 ∨ j = 3 ∨ j = 4 ∨ j = 5 ∨ j = 6 ∨ j = 7 ∨ j = 8 by omega) with rfl | rfl | rfl | rfl | rfl | rfl | rfl | rfl | rfl <;> rfl) dX2_init_5 (fun q1 => ?_)
  refine zs_dup hE (zcat_rf _) dX2_init_8 ?_
  refine zs_callI hE (As := []) (encA := encV) (met_J1_init K q1) q181 q98 q179 q180 rfl hd_J1_init (by decide) (by decide) rfl (by simp [zcat_rf, zcat_i, zcat_j, zcat_f, zcat_d]) (fun z hz => by cases hz) dX2_init_9 (fun _ => ?_)
  show zS _ 12 _ [va_rf (some q1), va_rf (some this)] _
  refine zs_putR hE (ci := 34) (k := 0) rfl (by decide) in_X2 (Or.inl q215) (Or.inl rfl) (Or.inr ⟨rfl, rfl, rfl⟩) (fun _ => q215) (tyX2_ok 0 (by decide)) (Or.inl ⟨_, rfl⟩) dX2_init_12 ?_
  refine zs_aload_n hE 0 rfl rfl dX2_init_15 ?_
  refine zs_iconst hE (v := (-1 : Int32)) (by decide) dX2_init_16 ?_
  refine zs_putI hE (ci := 34) (k := 2) rfl (by decide) in_X2 (Or.inl q222) (Or.inl rfl) (Or.inl rfl) (fun h => nomatch h) rfl dX2_init_17 ?_
  refine zs_aload_n hE 0 rfl rfl dX2_init_20 ?_
  refine zs_iconst hE (v := (-1 : Int32)) (by decide) dX2_init_21 ?_
  refine zs_putI hE (ci := 34) (k := 6) rfl (by decide) in_X2 (Or.inl q233) (Or.inl rfl) (Or.inl rfl) (fun h => nomatch h) rfl dX2_init_22 ?_
  refine zs_aload_n hE 0 rfl rfl dX2_init_25 ?_
  refine zs_iconst hE (v := (-1 : Int32)) (by decide) dX2_init_26 ?_
  refine zs_putI hE (ci := 34) (k := 23) rfl (by decide) in_X2 (Or.inl q279) (Or.inl rfl) (Or.inl rfl) (fun h => nomatch h) rfl dX2_init_27 ?_
  exact zs_vret hE dX2_init_30
theorem hd_X2_init : (yX2_init).cls ≠ "java/lang/invoke/MethodHandle" ∧ (yX2_init).cls ≠ "java/lang/invoke/VarHandle" ∧ (parseMethodDescriptor (yX2_init).desc).map (fun d => d.parameters.length) = some 0 := by decide +kernel
theorem met_X2_init (K : ZK) (this : Nat) : zMeth K yX2_init (zws yX2_init cX2_init 1 none) 3 140 [.ref this] encV (s_X2_init K this) :=
  fun l G hl hK => zmet_of hl hK (by decide +kernel) rfl rfl (by simp [zsl_nil, zsl_rf, zsl_r, zsl_i, zsl_j, zsl_f, zsl_d]) (fun x hE => by simp only [zla_nil, zla_rf, zla_r, zla_i, zla_j, zla_f, zla_d, Nat.reduceAdd]; exact sm_X2_init hE this)
theorem sm_J2_init__J21 {x : ZX Unit} {K : ZK} (hE : zE x K cJ2_init RJ2 "<init>" 1 1 100 encV none []) (this : Nat) : zS x 0 [(0, va_rf (some this))] [] (s_J2_init__J21 K this) := by
  unfold s_J2_init__J21
  refine zs_aload_n hE 0 rfl rfl dJ2_init_0 ?_
  refine zs_objInit hE q343 q169 q170 (by decide) (by first | decide | simp [zcat_rf, zcat_i, zcat_j, zcat_f, zcat_d]) dJ2_init_1 ?_
  exact zs_vret hE dJ2_init_4
theorem hd_J2_init__J21 : (yJ2_init).cls ≠ "java/lang/invoke/MethodHandle" ∧ (yJ2_init).cls ≠ "java/lang/invoke/VarHandle" ∧ (parseMethodDescriptor (yJ2_init).desc).map (fun d => d.parameters.length) = some 0 := by decide +kernel
theorem met_J2_init__J21 (K : ZK) (this : Nat) : zMeth K yJ2_init (zws yJ2_init cJ2_init 1 none) 1 100 [.ref this] encV (s_J2_init__J21 K this) :=
  fun l G hl hK => zmet_of hl hK (by decide +kernel) rfl rfl (by simp [zsl_nil, zsl_rf, zsl_r, zsl_i, zsl_j, zsl_f, zsl_d]) (fun x hE => by simp only [zla_nil, zla_rf, zla_r, zla_i, zla_j, zla_f, zla_d, Nat.reduceAdd]; exact sm_J2_init__J21 hE this)
theorem sm_J21_init {x : ZX Unit} {K : ZK} (hE : zE x K cJ21_init RJ21 "<init>" 2 2 120 encV none []) (this : Nat) (a1 : Option Nat) : zS x 0 [(0, va_rf (some this)), (1, va_rf a1)] [] (s_J21_init K this a1) := by
  unfold s_J21_init
  refine zs_aload_n hE 0 rfl rfl dJ21_init_0 ?_
  refine zs_aload_n hE 1 rfl rfl dJ21_init_1 ?_
  refine zs_putR hE (ci := 3) (k := 0) rfl (by decide) in_J21 (Or.inl q434) (Or.inl rfl) (Or.inr ⟨rfl, rfl, rfl⟩) (fun _ => q434) (tyJ21_ok 0 (by decide)) (Or.inl ⟨_, rfl⟩) dJ21_init_2 ?_
  refine zs_aload_n hE 0 rfl rfl dJ21_init_5 ?_
  refine zs_callI hE (As := []) (encA := encV) (met_J2_init__J21 K this) q342 q99 q433 q341 rfl hd_J2_init__J21 (by decide) (by decide) rfl (by simp [zcat_rf, zcat_i, zcat_j, zcat_f, zcat_d]) (fun z hz => by cases hz) dJ21_init_6 (fun _ => ?_)
  show zS _ 9 _ [] _
  exact zs_vret hE dJ21_init_9
theorem hd_J21_init : (yJ21_init).cls ≠ "java/lang/invoke/MethodHandle" ∧ (yJ21_init).cls ≠ "java/lang/invoke/VarHandle" ∧ (parseMethodDescriptor (yJ21_init).desc).map (fun d => d.parameters.length) = some 1 := by decide +kernel
theorem met_J21_init (K : ZK) (this : Nat) (a1 : Option Nat) : zMeth K yJ21_init (zws yJ21_init cJ21_init 2 none) 2 120 [.ref this, va_rf a1] encV (s_J21_init K this a1) :=
  fun l G hl hK => zmet_of hl hK (by decide +kernel) rfl rfl (by simp [zsl_nil, zsl_rf, zsl_r, zsl_i, zsl_j, zsl_f, zsl_d]) (fun x hE => by simp only [zla_nil, zla_rf, zla_r, zla_i, zla_j, zla_f, zla_d, Nat.reduceAdd]; exact sm_J21_init hE this a1)
theorem sm_J1_values {x : ZX (Option Nat)} {K : ZK} (hE : zE x K cJ1_values RJ1 "values" 2 3 141 encR (Option.some (Jvm.ClassFile.FieldType.object "java/util/Collection")) []) (this : Nat) : zS x 0 [(0, va_rf (some this))] [] (s_J1_values K this) := by
  unfold s_J1_values
  refine zs_aload_n hE 0 rfl rfl dJ1_values_0 ?_
  refine zs_getR hE (ci := 0) (k := 1) rfl (by decide) in_J1 (Or.inl q194) (Or.inr q195) dJ1_values_1 (fun v1 => ?_)
  refine zs_astore_n hE (i := 1) (q := 1) rfl (by decide) (zcat_rf (some this)) (lv' := [(0, va_rf (some this))]) rfl dJ1_values_4 ?_
  refine zs_aload_n hE 0 rfl rfl dJ1_values_5 ?_
  refine zs_ifnonnull hE 23 (by decide) dJ1_values_6 ?_ ?_
  · refine zs_new hE (ci := 3) (fs := [.null]) rfl in_J21 tyJ21 tyJ21_ok q428 q429 q122 (fun j hj => by rcases (show j = 0 by omega) with rfl; rfl) dJ1_values_9 (fun q2 => ?_)
    refine zs_dup hE (zcat_rf _) dJ1_values_12 ?_
    refine zs_aload_n hE 1 rfl rfl dJ1_values_13 ?_
    refine zs_callI hE (As := [va_rf (some this)]) (encA := encV) (met_J21_init K q2 (some this)) q432 q122 q430 q431 rfl hd_J21_init (by decide) (by decide) rfl (by simp [zcat_rf, zcat_i, zcat_j, zcat_f, zcat_d]) (fun z hz => by cases hz) dJ1_values_14 (fun _ => ?_)
    show zS _ 17 _ [va_rf (some q2)] _
    refine zs_astore_n hE (i := 1) (q := 1) rfl (by decide) (zcat_rf (some this)) (lv' := [(0, va_rf (some this))]) rfl dJ1_values_17 ?_
    refine zs_aload_n hE 1 rfl rfl dJ1_values_18 ?_
    refine zs_aload_n hE 0 rfl rfl dJ1_values_19 ?_
    refine zs_putR hE (ci := 0) (k := 1) rfl (by decide) in_J1 (Or.inl q194) (Or.inr q195) (Or.inl rfl) (fun h => nomatch h) (tyJ1_ok 1 (by decide)) (Or.inl ⟨_, rfl⟩) dJ1_values_20 ?_
    refine zs_aload_n hE 0 rfl rfl dJ1_values_23 ?_
    exact zs_aret hE (Or.inl ⟨_, rfl⟩) dJ1_values_24
  · refine zs_aload_n hE 0 rfl rfl dJ1_values_23 ?_
    exact zs_aret hE (Or.inl ⟨_, rfl⟩) dJ1_values_24
theorem hd_J1_values : (yJ1_values).cls ≠ "java/lang/invoke/MethodHandle" ∧ (yJ1_values).cls ≠ "java/lang/invoke/VarHandle" ∧ (parseMethodDescriptor (yJ1_values).desc).map (fun d => d.parameters.length) = some 0 := by decide +kernel
theorem met_J1_values (K : ZK) (this : Nat) : zMeth K yJ1_values (zws yJ1_values cJ1_values 2 (Option.some (Jvm.ClassFile.FieldType.object "java/util/Collection"))) 3 141 [.ref this] encR (s_J1_values K this) :=
  fun l G hl hK => zmet_of hl hK (by decide +kernel) rfl rfl (by simp [zsl_nil, zsl_rf, zsl_r, zsl_i, zsl_j, zsl_f, zsl_d]) (fun x hE => by simp only [zla_nil, zla_rf, zla_r, zla_i, zla_j, zla_f, zla_d, Nat.reduceAdd]; exact sm_J1_values hE this)
theorem sm_J1_getFirstEntry_B9 {x : ZX (Option Nat)} {K : ZK} (hE : zE x K cJ1_getFirstEntry RJ1 "getFirstEntry" 2 1 100 encR (Option.some (Jvm.ClassFile.FieldType.object "java/util/TreeMap$Entry")) []) (self9 : (Option Nat) → ZP (Option Nat)) (hs9 : ∀ v : Option Nat, zS x 9 [(1, va_rf v)] [] (self9 v)) (x1 : Option Nat) : zS x 9 [(1, va_rf x1)] [] (s_J1_getFirstEntry_B9 K self9 x1) := by
  unfold s_J1_getFirstEntry_B9
  refine zs_aload_n hE 0 rfl rfl dJ1_getFirstEntry_9 ?_
  refine zs_getR hE (ci := 12) (k := 2) rfl (by decide) in_J33 (Or.inl q1676) (Or.inl rfl) dJ1_getFirstEntry_10 (fun v2 => ?_)
  refine zs_ifnull hE 24 (by decide) dJ1_getFirstEntry_13 ?_ ?_
  · refine zs_aload_n hE 0 rfl rfl dJ1_getFirstEntry_24 ?_
    exact zs_aret hE (Or.inl ⟨_, rfl⟩) dJ1_getFirstEntry_25
  · refine zs_aload_n hE 0 rfl rfl dJ1_getFirstEntry_16 ?_
    refine zs_getR hE (ci := 12) (k := 2) rfl (by decide) in_J33 (Or.inl q1676) (Or.inl rfl) dJ1_getFirstEntry_17 (fun v3 => ?_)
    refine zs_astore_n hE (i := 1) (q := 1) rfl (by decide) (trivial) (lv' := []) rfl dJ1_getFirstEntry_20 ?_
    refine zs_goto hE 9 (by decide) dJ1_getFirstEntry_21 ?_
    exact hs9 v3
theorem sm_J1_getFirstEntry_L9 {x : ZX (Option Nat)} {K : ZK} (hE : zE x K cJ1_getFirstEntry RJ1 "getFirstEntry" 2 1 100 encR (Option.some (Jvm.ClassFile.FieldType.object "java/util/TreeMap$Entry")) []) (v : Option Nat) : zS x 9 [(1, va_rf v)] [] (s_J1_getFirstEntry_L9 K v) := by
  unfold s_J1_getFirstEntry_L9
  exact zs_loop (lvf := fun v => [(1, va_rf v)]) (fun self9 hs9 v => sm_J1_getFirstEntry_B9 hE self9 hs9 v) v
theorem sm_J1_getFirstEntry {x : ZX (Option Nat)} {K : ZK} (hE : zE x K cJ1_getFirstEntry RJ1 "getFirstEntry" 2 1 100 encR (Option.some (Jvm.ClassFile.FieldType.object "java/util/TreeMap$Entry")) []) (this : Nat) : zS x 0 [(0, va_rf (some this))] [] (s_J1_getFirstEntry K this) := by
  unfold s_J1_getFirstEntry
  refine zs_aload_n hE 0 rfl rfl dJ1_getFirstEntry_0 ?_
  refine zs_getR hE (ci := 0) (k := 3) rfl (by decide) in_J1 (Or.inl q187) (Or.inl rfl) dJ1_getFirstEntry_1 (fun v1 => ?_)
  refine zs_astore_n hE (i := 1) (q := 1) rfl (by decide) (zcat_rf (some this)) (lv' := [(0, va_rf (some this))]) rfl dJ1_getFirstEntry_4 ?_
  refine zs_aload_n hE 0 rfl rfl dJ1_getFirstEntry_5 ?_
  refine zs_ifnull hE 24 (by decide) dJ1_getFirstEntry_6 ?_ ?_
  · refine zs_aload_n hE 0 rfl rfl dJ1_getFirstEntry_24 ?_
    exact zs_aret hE (Or.inl ⟨_, rfl⟩) dJ1_getFirstEntry_25
  · refine zs_sub [0] rfl ?_
    exact sm_J1_getFirstEntry_L9 hE v1
theorem hd_J1_getFirstEntry : (yJ1_getFirstEntry).cls ≠ "java/lang/invoke/MethodHandle" ∧ (yJ1_getFirstEntry).cls ≠ "java/lang/invoke/VarHandle" ∧ (parseMethodDescriptor (yJ1_getFirstEntry).desc).map (fun d => d.parameters.length) = some 0 := by decide +kernel
theorem met_J1_getFirstEntry (K : ZK) (this : Nat) : zMeth K yJ1_getFirstEntry (zws yJ1_getFirstEntry cJ1_getFirstEntry 2 (Option.some (Jvm.ClassFile.FieldType.object "java/util/TreeMap$Entry"))) 1 100 [.ref this] encR (s_J1_getFirstEntry K this) :=
  fun l G hl hK => zmet_of hl hK (by decide +kernel) rfl rfl (by simp [zsl_nil, zsl_rf, zsl_r, zsl_i, zsl_j, zsl_f, zsl_d]) (fun x hE => by simp only [zla_nil, zla_rf, zla_r, zla_i, zla_j, zla_f, zla_d, Nat.reduceAdd]; exact sm_J1_getFirstEntry hE this)
theorem sm_J26_init__J28 {x : ZX Unit} {K : ZK} (hE : zE x K cJ26_init RJ26 "<init>" 3 1 100 encV none []) (this : Nat) (a1 : Option Nat) (a2 : Option Nat) : zS x 0 [(0, va_rf (some this)), (1, va_rf a1), (2, va_rf a2)] [] (s_J26_init__J28 K this a1 a2) := by
  unfold s_J26_init__J28
  refine zs_aload_n hE 0 rfl rfl dJ26_init_0 ?_
  refine zs_aload_n hE 1 rfl rfl dJ26_init_1 ?_
  refine zs_putR hE (ci := 8) (k := 3) rfl (by decide) in_J28 (Or.inl q816) (Or.inl rfl) (Or.inr ⟨rfl, rfl, rfl⟩) (fun _ => q816) (tyJ28_ok 3 (by decide)) (Or.inl ⟨_, rfl⟩) dJ26_init_2 ?_
  refine zs_aload_n hE 0 rfl rfl dJ26_init_5 ?_
  refine zs_objInit hE q812 q169 q170 (by decide) (by first | decide | simp [zcat_rf, zcat_i, zcat_j, zcat_f, zcat_d]) dJ26_init_6 ?_
  refine zs_aload_n hE 0 rfl rfl dJ26_init_9 ?_
  refine zs_aload_n hE 1 rfl rfl dJ26_init_10 ?_
  refine zs_getI hE (ci := 0) (k := 5) rfl (by decide) in_J1 (Or.inr ⟨_, zn q190 rfl⟩) (Or.inl rfl) dJ26_init_11 (fun v1 => ?_)
  refine zs_putI hE (ci := 8) (k := 2) rfl (by decide) in_J28 (Or.inl q815) (Or.inl rfl) (Or.inl rfl) (fun h => nomatch h) rfl dJ26_init_14 ?_
  refine zs_aload_n hE 0 rfl rfl dJ26_init_17 ?_
  refine zs_null hE dJ26_init_18 ?_
  refine zs_putR hE (ci := 8) (k := 1) rfl (by decide) in_J28 (Or.inl q814) (Or.inl rfl) (Or.inl rfl) (fun h => nomatch h) (tyJ28_ok 1 (by decide)) (Or.inl ⟨_, rfl⟩) dJ26_init_19 ?_
  refine zs_aload_n hE 0 rfl rfl dJ26_init_22 ?_
  refine zs_aload_n hE 2 rfl rfl dJ26_init_23 ?_
  refine zs_putR hE (ci := 8) (k := 0) rfl (by decide) in_J28 (Or.inl q813) (Or.inl rfl) (Or.inl rfl) (fun h => nomatch h) (tyJ28_ok 0 (by decide)) (Or.inl ⟨_, rfl⟩) dJ26_init_24 ?_
  exact zs_vret hE dJ26_init_27
theorem hd_J26_init__J28 : (yJ26_init).cls ≠ "java/lang/invoke/MethodHandle" ∧ (yJ26_init).cls ≠ "java/lang/invoke/VarHandle" ∧ (parseMethodDescriptor (yJ26_init).desc).map (fun d => d.parameters.length) = some 2 := by decide +kernel
theorem met_J26_init__J28 (K : ZK) (this : Nat) (a1 : Option Nat) (a2 : Option Nat) : zMeth K yJ26_init (zws yJ26_init cJ26_init 3 none) 1 100 [.ref this, va_rf a1, va_rf a2] encV (s_J26_init__J28 K this a1 a2) :=
  fun l G hl hK => zmet_of hl hK (by decide +kernel) rfl rfl (by simp [zsl_nil, zsl_rf, zsl_r, zsl_i, zsl_j, zsl_f, zsl_d]) (fun x hE => by simp only [zla_nil, zla_rf, zla_r, zla_i, zla_j, zla_f, zla_d, Nat.reduceAdd]; exact sm_J26_init__J28 hE this a1 a2)
theorem sm_J28_init {x : ZX Unit} {K : ZK} (hE : zE x K cJ28_init RJ28 "<init>" 3 2 122 encV none []) (this : Nat) (a1 : Option Nat) (a2 : Option Nat) : zS x 0 [(0, va_rf (some this)), (1, va_rf a1), (2, va_rf a2)] [] (s_J28_init K this a1 a2) := by
  unfold s_J28_init
  refine zs_aload_n hE 0 rfl rfl dJ28_init_0 ?_
  refine zs_aload_n hE 1 rfl rfl dJ28_init_1 ?_
  refine zs_aload_n hE 2 rfl rfl dJ28_init_2 ?_
  refine zs_callI hE (As := [va_rf a1, va_rf a2]) (encA := encV) (met_J26_init__J28 K this a1 a2) q811 q127 q838 q810 rfl hd_J26_init__J28 (by decide) (by decide) rfl (by simp [zcat_rf, zcat_i, zcat_j, zcat_f, zcat_d]) (fun z hz => by cases hz) dJ28_init_3 (fun _ => ?_)
  show zS _ 6 _ [] _
  exact zs_vret hE dJ28_init_6
theorem hd_J28_init : (yJ28_init).cls ≠ "java/lang/invoke/MethodHandle" ∧ (yJ28_init).cls ≠ "java/lang/invoke/VarHandle" ∧ (parseMethodDescriptor (yJ28_init).desc).map (fun d => d.parameters.length) = some 2 := by decide +kernel
theorem met_J28_init (K : ZK) (this : Nat) (a1 : Option Nat) (a2 : Option Nat) : zMeth K yJ28_init (zws yJ28_init cJ28_init 3 none) 2 122 [.ref this, va_rf a1, va_rf a2] encV (s_J28_init K this a1 a2) :=
  fun l G hl hK => zmet_of hl hK (by decide +kernel) rfl rfl (by simp [zsl_nil, zsl_rf, zsl_r, zsl_i, zsl_j, zsl_f, zsl_d]) (fun x hE => by simp only [zla_nil, zla_rf, zla_r, zla_i, zla_j, zla_f, zla_d, Nat.reduceAdd]; exact sm_J28_init hE this a1 a2)
theorem sm_J21_iterator {x : ZX (Option Nat)} {K : ZK} (hE : zE x K cJ21_iterator RJ21 "iterator" 1 3 144 encR (Option.some (Jvm.ClassFile.FieldType.object "java/util/Iterator")) []) (this : Nat) : zS x 0 [(0, va_rf (some this))] [] (s_J21_iterator K this) := by
  unfold s_J21_iterator
  refine zs_new hE (ci := 8) (fs := [.null, .null, .int 0, .null]) rfl in_J28 tyJ28 tyJ28_ok q832 q833 q129 (fun j hj => by rcases (show j = 0 ∨ j = 1 ∨ j = 2 ∨ j = 3 by omega) with rfl | rfl | rfl | rfl <;> rfl) dJ21_iterator_0 (fun q1 => ?_)
  refine zs_dup hE (zcat_rf _) dJ21_iterator_3 ?_
  refine zs_aload_n hE 0 rfl rfl dJ21_iterator_4 ?_
  refine zs_getR hE (ci := 3) (k := 0) rfl (by decide) in_J21 (Or.inl q434) (Or.inl rfl) dJ21_iterator_5 (fun v2 => ?_)
  refine zs_aload_n hE 0 rfl rfl dJ21_iterator_8 ?_
  refine zs_getR hE (ci := 3) (k := 0) rfl (by decide) in_J21 (Or.inl q434) (Or.inl rfl) dJ21_iterator_9 (fun v3 => ?_)
  refine zs_callV hE (As := []) (encA := encR) (ci := 0) rfl (fun y0 => met_J1_getFirstEntry K y0) q516 q98 q834 q514 (zq q515) hd_J1_getFirstEntry (by decide) (by decide) rfl (by simp [zcat_rf, zcat_i, zcat_j, zcat_f, zcat_d]) (fun z hz => by cases hz) dJ21_iterator_12 (fun r4 => ?_)
  show zS _ 15 _ [va_rf r4, va_rf v2, va_rf (some q1), va_rf (some q1)] _
  refine zs_callI hE (As := [va_rf v2, va_rf r4]) (encA := encV) (met_J28_init K q1 v2 r4) q837 q129 q835 q836 rfl hd_J28_init (by decide) (by decide) rfl (by simp [zcat_rf, zcat_i, zcat_j, zcat_f, zcat_d]) (fun z hz => by cases hz) dJ21_iterator_15 (fun _ => ?_)
  show zS _ 18 _ [va_rf (some q1)] _
  exact zs_aret hE (Or.inl ⟨_, rfl⟩) dJ21_iterator_18
theorem hd_J21_iterator : (yJ21_iterator).cls ≠ "java/lang/invoke/MethodHandle" ∧ (yJ21_iterator).cls ≠ "java/lang/invoke/VarHandle" ∧ (parseMethodDescriptor (yJ21_iterator).desc).map (fun d => d.parameters.length) = some 0 := by decide +kernel
theorem met_J21_iterator (K : ZK) (this : Nat) : zMeth K yJ21_iterator (zws yJ21_iterator cJ21_iterator 1 (Option.some (Jvm.ClassFile.FieldType.object "java/util/Iterator"))) 3 144 [.ref this] encR (s_J21_iterator K this) :=
  fun l G hl hK => zmet_of hl hK (by decide +kernel) rfl rfl (by simp [zsl_nil, zsl_rf, zsl_r, zsl_i, zsl_j, zsl_f, zsl_d]) (fun x hE => by simp only [zla_nil, zla_rf, zla_r, zla_i, zla_j, zla_f, zla_d, Nat.reduceAdd]; exact sm_J21_iterator hE this)
theorem sm_J26_hasNext__J28 {x : ZX Int32} {K : ZK} (hE : zE x K cJ26_hasNext RJ26 "hasNext" 1 1 100 encI (Option.some Jvm.ClassFile.FieldType.boolean) []) (this : Nat) : zS x 0 [(0, va_rf (some this))] [] (s_J26_hasNext__J28 K this) := by
  unfold s_J26_hasNext__J28
  refine zs_aload_n hE 0 rfl rfl dJ26_hasNext_0 ?_
  refine zs_getR hE (ci := 8) (k := 0) rfl (by decide) in_J28 (Or.inl q813) (Or.inl rfl) dJ26_hasNext_1 (fun v1 => ?_)
  refine zs_ifnull hE 11 (by decide) dJ26_hasNext_4 ?_ ?_
  · refine zs_iconst hE (v := (0 : Int32)) (by decide) dJ26_hasNext_11 ?_
    exact zs_zret hE rfl dJ26_hasNext_12
  · refine zs_iconst hE (v := (1 : Int32)) (by decide) dJ26_hasNext_7 ?_
    refine zs_goto hE 12 (by decide) dJ26_hasNext_8 ?_
    exact zs_zret hE rfl dJ26_hasNext_12
theorem hd_J26_hasNext__J28 : (yJ26_hasNext).cls ≠ "java/lang/invoke/MethodHandle" ∧ (yJ26_hasNext).cls ≠ "java/lang/invoke/VarHandle" ∧ (parseMethodDescriptor (yJ26_hasNext).desc).map (fun d => d.parameters.length) = some 0 := by decide +kernel
theorem met_J26_hasNext__J28 (K : ZK) (this : Nat) : zMeth K yJ26_hasNext (zws yJ26_hasNext cJ26_hasNext 1 (Option.some Jvm.ClassFile.FieldType.boolean)) 1 100 [.ref this] encI (s_J26_hasNext__J28 K this) :=
  fun l G hl hK => zmet_of hl hK (by decide +kernel) rfl rfl (by simp [zsl_nil, zsl_rf, zsl_r, zsl_i, zsl_j, zsl_f, zsl_d]) (fun x hE => by simp only [zla_nil, zla_rf, zla_r, zla_i, zla_j, zla_f, zla_d, Nat.reduceAdd]; exact sm_J26_hasNext__J28 hE this)
theorem sm_X6_init {x : ZX Unit} {K : ZK} (hE : zE x K cX6_init RX6 "<init>" 3 1 100 encV none []) (this : Nat) (a1 : Option Nat) (a2 : Int32) : zS x 0 [(0, va_rf (some this)), (1, va_rf a1), (2, .int a2)] [] (s_X6_init K this a1 a2) := by
  unfold s_X6_init
  refine zs_aload_n hE 0 rfl rfl dX6_init_0 ?_
  refine zs_objInit hE q1735 q169 q170 (by decide) (by first | decide | simp [zcat_rf, zcat_i, zcat_j, zcat_f, zcat_d]) dX6_init_1 ?_
  refine zs_aload_n hE 0 rfl rfl dX6_init_4 ?_
  refine zs_aload_n hE 1 rfl rfl dX6_init_5 ?_
  refine zs_putR hE (ci := 38) (k := 0) rfl (by decide) in_X6 (Or.inl q1736) (Or.inl rfl) (Or.inr ⟨rfl, rfl, rfl⟩) (fun _ => q1736) (tyX6_ok 0 (by decide)) (Or.inl ⟨_, rfl⟩) dX6_init_6 ?_
  refine zs_aload_n hE 0 rfl rfl dX6_init_9 ?_
  refine zs_iload_n hE 2 rfl rfl dX6_init_10 ?_
  refine zs_putI hE (ci := 38) (k := 1) rfl (by decide) in_X6 (Or.inl q1740) (Or.inl rfl) (Or.inr ⟨rfl, rfl, rfl⟩) (fun _ => q1740) rfl dX6_init_11 ?_
  exact zs_vret hE dX6_init_14
theorem hd_X6_init : (yX6_init).cls ≠ "java/lang/invoke/MethodHandle" ∧ (yX6_init).cls ≠ "java/lang/invoke/VarHandle" ∧ (parseMethodDescriptor (yX6_init).desc).map (fun d => d.parameters.length) = some 2 := by decide +kernel
theorem met_X6_init (K : ZK) (this : Nat) (a1 : Option Nat) (a2 : Int32) : zMeth K yX6_init (zws yX6_init cX6_init 3 none) 1 100 [.ref this, va_rf a1, .int a2] encV (s_X6_init K this a1 a2) :=
  fun l G hl hK => zmet_of hl hK (by decide +kernel) rfl rfl (by simp [zsl_nil, zsl_rf, zsl_r, zsl_i, zsl_j, zsl_f, zsl_d]) (fun x hE => by simp only [zla_nil, zla_rf, zla_r, zla_i, zla_j, zla_f, zla_d, Nat.reduceAdd]; exact sm_X6_init hE this a1 a2)
theorem sm_X6_copy {x : ZX (Option Nat)} {K : ZK} (hE : zE x K cX6_copy RX6 "copy" 2 2 122 encR (Option.some (Jvm.ClassFile.FieldType.object "TokenRing$Ride")) []) (this : Nat) : zS x 0 [(0, va_rf (some this))] [] (s_X6_copy K this) := by
  unfold s_X6_copy
  refine zs_new hE (ci := 38) (fs := [.null, .int 0, .int 0, .int 0, .int 0]) rfl in_X6 tyX6 tyX6_ok q1730 q1731 q137 (fun j hj => by rcases (show j = 0 ∨ j = 1 ∨ j = 2 ∨ j = 3 ∨ j = 4 by omega) with rfl | rfl | rfl | rfl | rfl <;> rfl) dX6_copy_0 (fun q1 => ?_)
  refine zs_dup hE (zcat_rf _) dX6_copy_3 ?_
  refine zs_aload_n hE 0 rfl rfl dX6_copy_4 ?_
  refine zs_getR hE (ci := 38) (k := 0) rfl (by decide) in_X6 (Or.inl q1736) (Or.inl rfl) dX6_copy_5 (fun v2 => ?_)
  refine zs_aload_n hE 0 rfl rfl dX6_copy_8 ?_
  refine zs_getI hE (ci := 38) (k := 1) rfl (by decide) in_X6 (Or.inl q1740) (Or.inl rfl) dX6_copy_9 (fun v3 => ?_)
  refine zs_callI hE (As := [va_rf v2, .int v3]) (encA := encV) (met_X6_init K q1 v2 v3) q1734 q137 q1732 q1733 rfl hd_X6_init (by decide) (by decide) rfl (by simp [zcat_rf, zcat_i, zcat_j, zcat_f, zcat_d]) (fun z hz => by cases hz) dX6_copy_12 (fun _ => ?_)
  show zS _ 15 _ [va_rf (some q1)] _
  refine zs_astore_n hE (i := 1) (q := 1) rfl (by decide) (zcat_rf (some this)) (lv' := [(0, va_rf (some this))]) rfl dX6_copy_15 ?_
  refine zs_aload_n hE 0 rfl rfl dX6_copy_16 ?_
  refine zs_aload_n hE 1 rfl rfl dX6_copy_17 ?_
  refine zs_getI hE (ci := 38) (k := 2) rfl (by decide) in_X6 (Or.inl q1742) (Or.inl rfl) dX6_copy_18 (fun v4 => ?_)
  refine zs_putI hE (ci := 38) (k := 2) rfl (by decide) in_X6 (Or.inl q1742) (Or.inl rfl) (Or.inl rfl) (fun h => nomatch h) rfl dX6_copy_21 ?_
  refine zs_aload_n hE 0 rfl rfl dX6_copy_24 ?_
  refine zs_aload_n hE 1 rfl rfl dX6_copy_25 ?_
  refine zs_getI hE (ci := 38) (k := 3) rfl (by decide) in_X6 (Or.inl q1745) (Or.inl rfl) dX6_copy_26 (fun v5 => ?_)
  refine zs_putT hE (ci := 38) (k := 3) rfl (by decide) in_X6 (Or.inl q1745) (Or.inl rfl) (Or.inl rfl) (fun h => nomatch h) rfl dX6_copy_29 ?_
  refine zs_aload_n hE 0 rfl rfl dX6_copy_32 ?_
  refine zs_aload_n hE 1 rfl rfl dX6_copy_33 ?_
  refine zs_getI hE (ci := 38) (k := 4) rfl (by decide) in_X6 (Or.inl q1748) (Or.inl rfl) dX6_copy_34 (fun v6 => ?_)
  refine zs_putT hE (ci := 38) (k := 4) rfl (by decide) in_X6 (Or.inl q1748) (Or.inl rfl) (Or.inl rfl) (fun h => nomatch h) rfl dX6_copy_37 ?_
  refine zs_aload_n hE 0 rfl rfl dX6_copy_40 ?_
  exact zs_aret hE (Or.inl ⟨_, rfl⟩) dX6_copy_41
theorem hd_X6_copy : (yX6_copy).cls ≠ "java/lang/invoke/MethodHandle" ∧ (yX6_copy).cls ≠ "java/lang/invoke/VarHandle" ∧ (parseMethodDescriptor (yX6_copy).desc).map (fun d => d.parameters.length) = some 0 := by decide +kernel
theorem met_X6_copy (K : ZK) (this : Nat) : zMeth K yX6_copy (zws yX6_copy cX6_copy 2 (Option.some (Jvm.ClassFile.FieldType.object "TokenRing$Ride"))) 2 122 [.ref this] encR (s_X6_copy K this) :=
  fun l G hl hK => zmet_of hl hK (by decide +kernel) rfl rfl (by simp [zsl_nil, zsl_rf, zsl_r, zsl_i, zsl_j, zsl_f, zsl_d]) (fun x hE => by simp only [zla_nil, zla_rf, zla_r, zla_i, zla_j, zla_f, zla_d, Nat.reduceAdd]; exact sm_X6_copy hE this)
theorem sm_J1_successor_B42 {x : ZX (Option Nat)} {K : ZK} (hE : zE x K cJ1_successor RJ1 "successor" 3 1 100 encR (Option.some (Jvm.ClassFile.FieldType.object "java/util/TreeMap$Entry")) []) (self42 : (Option Nat × Option Nat) → ZP (Option Nat)) (hs42 : ∀ v : Option Nat × Option Nat, zS x 42 [(1, va_rf v.1), (2, va_rf v.2)] [] (self42 v)) (x1 : Option Nat) (x2 : Option Nat) : zS x 42 [(1, va_rf x1), (2, va_rf x2)] [] (s_J1_successor_B42 K self42 x1 x2) := by
  unfold s_J1_successor_B42
  refine zs_aload_n hE 0 rfl rfl dJ1_successor_42 ?_
  refine zs_ifnull hE 64 (by decide) dJ1_successor_43 ?_ ?_
  · refine zs_aload_n hE 0 rfl rfl dJ1_successor_64 ?_
    exact zs_aret hE (Or.inl ⟨_, rfl⟩) dJ1_successor_65
  · refine zs_aload_n hE 1 rfl rfl dJ1_successor_46 ?_
    refine zs_aload_n hE 0 rfl rfl dJ1_successor_47 ?_
    refine zs_getR hE (ci := 12) (k := 3) rfl (by decide) in_J33 (Or.inl q1677) (Or.inl rfl) dJ1_successor_48 (fun v3 => ?_)
    refine zs_acmp_ne hE 64 (by decide) dJ1_successor_51 ?_ ?_
    · refine zs_aload_n hE 0 rfl rfl dJ1_successor_54 ?_
      refine zs_astore_n hE (i := 2) (q := 2) rfl (by decide) (zcat_rf x1) (lv' := [(1, va_rf x1)]) rfl dJ1_successor_55 ?_
      refine zs_aload_n hE 1 rfl rfl dJ1_successor_56 ?_
      refine zs_getR hE (ci := 12) (k := 4) rfl (by decide) in_J33 (Or.inl q1679) (Or.inl rfl) dJ1_successor_57 (fun v4 => ?_)
      refine zs_astore_n hE (i := 1) (q := 1) rfl (by decide) (trivial) (lv' := [(2, va_rf x1)]) rfl dJ1_successor_60 ?_
      refine zs_goto hE 42 (by decide) dJ1_successor_61 ?_
      exact hs42 (v4, x1)
    · refine zs_aload_n hE 0 rfl rfl dJ1_successor_64 ?_
      exact zs_aret hE (Or.inl ⟨_, rfl⟩) dJ1_successor_65
theorem sm_J1_successor_L42 {x : ZX (Option Nat)} {K : ZK} (hE : zE x K cJ1_successor RJ1 "successor" 3 1 100 encR (Option.some (Jvm.ClassFile.FieldType.object "java/util/TreeMap$Entry")) []) (v : Option Nat × Option Nat) : zS x 42 [(1, va_rf v.1), (2, va_rf v.2)] [] (s_J1_successor_L42 K v) := by
  unfold s_J1_successor_L42
  exact zs_loop (lvf := fun v => [(1, va_rf v.1), (2, va_rf v.2)]) (fun self42 hs42 v => sm_J1_successor_B42 hE self42 hs42 v.1 v.2) v
theorem sm_J1_successor_B18 {x : ZX (Option Nat)} {K : ZK} (hE : zE x K cJ1_successor RJ1 "successor" 3 1 100 encR (Option.some (Jvm.ClassFile.FieldType.object "java/util/TreeMap$Entry")) []) (self18 : (Option Nat) → ZP (Option Nat)) (hs18 : ∀ v : Option Nat, zS x 18 [(1, va_rf v)] [] (self18 v)) (x1 : Option Nat) : zS x 18 [(1, va_rf x1)] [] (s_J1_successor_B18 K self18 x1) := by
  unfold s_J1_successor_B18
  refine zs_aload_n hE 0 rfl rfl dJ1_successor_18 ?_
  refine zs_getR hE (ci := 12) (k := 2) rfl (by decide) in_J33 (Or.inl q1676) (Or.inl rfl) dJ1_successor_19 (fun v6 => ?_)
  refine zs_ifnull hE 33 (by decide) dJ1_successor_22 ?_ ?_
  · refine zs_aload_n hE 0 rfl rfl dJ1_successor_33 ?_
    exact zs_aret hE (Or.inl ⟨_, rfl⟩) dJ1_successor_34
  · refine zs_aload_n hE 0 rfl rfl dJ1_successor_25 ?_
    refine zs_getR hE (ci := 12) (k := 2) rfl (by decide) in_J33 (Or.inl q1676) (Or.inl rfl) dJ1_successor_26 (fun v7 => ?_)
    refine zs_astore_n hE (i := 1) (q := 1) rfl (by decide) (trivial) (lv' := []) rfl dJ1_successor_29 ?_
    refine zs_goto hE 18 (by decide) dJ1_successor_30 ?_
    exact hs18 v7
theorem sm_J1_successor_L18 {x : ZX (Option Nat)} {K : ZK} (hE : zE x K cJ1_successor RJ1 "successor" 3 1 100 encR (Option.some (Jvm.ClassFile.FieldType.object "java/util/TreeMap$Entry")) []) (v : Option Nat) : zS x 18 [(1, va_rf v)] [] (s_J1_successor_L18 K v) := by
  unfold s_J1_successor_L18
  exact zs_loop (lvf := fun v => [(1, va_rf v)]) (fun self18 hs18 v => sm_J1_successor_B18 hE self18 hs18 v) v
theorem sm_J1_successor {x : ZX (Option Nat)} {K : ZK} (hE : zE x K cJ1_successor RJ1 "successor" 3 1 100 encR (Option.some (Jvm.ClassFile.FieldType.object "java/util/TreeMap$Entry")) []) (a1 : Option Nat) : zS x 0 [(0, va_rf a1)] [] (s_J1_successor K a1) := by
  unfold s_J1_successor
  refine zs_aload_n hE 0 rfl rfl dJ1_successor_0 ?_
  refine zs_ifnonnull hE 6 (by decide) dJ1_successor_1 ?_ ?_
  · refine zs_null hE dJ1_successor_4 ?_
    exact zs_aret hE (Or.inl ⟨_, rfl⟩) dJ1_successor_5
  · refine zs_aload_n hE 0 rfl rfl dJ1_successor_6 ?_
    refine zs_getR hE (ci := 12) (k := 3) rfl (by decide) in_J33 (Or.inl q1677) (Or.inl rfl) dJ1_successor_7 (fun v1 => ?_)
    refine zs_ifnull hE 35 (by decide) dJ1_successor_10 ?_ ?_
    · refine zs_aload_n hE 0 rfl rfl dJ1_successor_35 ?_
      refine zs_getR hE (ci := 12) (k := 4) rfl (by decide) in_J33 (Or.inl q1679) (Or.inl rfl) dJ1_successor_36 (fun v2 => ?_)
      refine zs_astore_n hE (i := 1) (q := 1) rfl (by decide) (zcat_rf a1) (lv' := [(0, va_rf a1)]) rfl dJ1_successor_39 ?_
      refine zs_aload_n hE 1 rfl rfl dJ1_successor_40 ?_
      refine zs_astore_n hE (i := 2) (q := 2) rfl (by decide) (zcat_rf v2) (lv' := [(1, va_rf v2), (0, va_rf a1)]) rfl dJ1_successor_41 ?_
      refine zs_sub [1, 0] rfl ?_
      exact sm_J1_successor_L42 hE (v2, a1)
    · refine zs_aload_n hE 0 rfl rfl dJ1_successor_13 ?_
      refine zs_getR hE (ci := 12) (k := 3) rfl (by decide) in_J33 (Or.inl q1677) (Or.inl rfl) dJ1_successor_14 (fun v5 => ?_)
      refine zs_astore_n hE (i := 1) (q := 1) rfl (by decide) (zcat_rf a1) (lv' := [(0, va_rf a1)]) rfl dJ1_successor_17 ?_
      refine zs_sub [0] rfl ?_
      exact sm_J1_successor_L18 hE v5
theorem hd_J1_successor : (yJ1_successor).cls ≠ "java/lang/invoke/MethodHandle" ∧ (yJ1_successor).cls ≠ "java/lang/invoke/VarHandle" ∧ (parseMethodDescriptor (yJ1_successor).desc).map (fun d => d.parameters.length) = some 1 := by decide +kernel
theorem met_J1_successor (K : ZK) (a1 : Option Nat) : zMeth K yJ1_successor (zws yJ1_successor cJ1_successor 3 (Option.some (Jvm.ClassFile.FieldType.object "java/util/TreeMap$Entry"))) 1 100 [va_rf a1] encR (s_J1_successor K a1) :=
  fun l G hl hK => zmet_of hl hK (by decide +kernel) rfl rfl (by simp [zsl_nil, zsl_rf, zsl_r, zsl_i, zsl_j, zsl_f, zsl_d]) (fun x hE => by simp only [zla_nil, zla_rf, zla_r, zla_i, zla_j, zla_f, zla_d, Nat.reduceAdd]; exact sm_J1_successor hE a1)
theorem sm_J26_nextEntry__J28 {x : ZX (Option Nat)} {K : ZK} (hE : zE x K cJ26_nextEntry RJ26 "nextEntry" 2 2 122 encR (Option.some (Jvm.ClassFile.FieldType.object "java/util/TreeMap$Entry")) []) (this : Nat) : zS x 0 [(0, va_rf (some this))] [] (s_J26_nextEntry__J28 K this) := by
  unfold s_J26_nextEntry__J28
  refine zs_aload_n hE 0 rfl rfl dJ26_nextEntry_0 ?_
  refine zs_getR hE (ci := 8) (k := 0) rfl (by decide) in_J28 (Or.inl q813) (Or.inl rfl) dJ26_nextEntry_1 (fun v1 => ?_)
  refine zs_astore_n hE (i := 1) (q := 1) rfl (by decide) (zcat_rf (some this)) (lv' := [(0, va_rf (some this))]) rfl dJ26_nextEntry_4 ?_
  refine zs_aload_n hE 0 rfl rfl dJ26_nextEntry_5 ?_
  refine zs_ifnonnull hE 17 (by decide) dJ26_nextEntry_6 ?_ ?_
  · exact zs_bad
  · refine zs_aload_n hE 1 rfl rfl dJ26_nextEntry_17 ?_
    refine zs_getR hE (ci := 8) (k := 3) rfl (by decide) in_J28 (Or.inl q816) (Or.inl rfl) dJ26_nextEntry_18 (fun v2 => ?_)
    refine zs_getI hE (ci := 0) (k := 5) rfl (by decide) in_J1 (Or.inr ⟨_, zn q190 rfl⟩) (Or.inl rfl) dJ26_nextEntry_21 (fun v3 => ?_)
    refine zs_aload_n hE 1 rfl rfl dJ26_nextEntry_24 ?_
    refine zs_getI hE (ci := 8) (k := 2) rfl (by decide) in_J28 (Or.inl q815) (Or.inl rfl) dJ26_nextEntry_25 (fun v4 => ?_)
    refine zs_icmp_eq hE 39 (by decide) dJ26_nextEntry_28 ?_ ?_
    · refine zs_aload_n hE 1 rfl rfl dJ26_nextEntry_39 ?_
      refine zs_aload_n hE 0 rfl rfl dJ26_nextEntry_40 ?_
      refine zs_callS hE (As := [va_rf v1]) (encA := encR) (met_J1_successor K v1) q1071 q98 q1069 q1070 hd_J1_successor (by decide) (by decide) rfl (by simp [zcat_rf, zcat_i, zcat_j, zcat_f, zcat_d]) (fun z hz => by cases hz) dJ26_nextEntry_41 (fun r5 => ?_)
      show zS _ 44 _ [va_rf r5, va_rf (some this)] _
      refine zs_putR hE (ci := 8) (k := 0) rfl (by decide) in_J28 (Or.inl q813) (Or.inl rfl) (Or.inl rfl) (fun h => nomatch h) (tyJ28_ok 0 (by decide)) (Or.inl ⟨_, rfl⟩) dJ26_nextEntry_44 ?_
      refine zs_aload_n hE 1 rfl rfl dJ26_nextEntry_47 ?_
      refine zs_aload_n hE 0 rfl rfl dJ26_nextEntry_48 ?_
      refine zs_putR hE (ci := 8) (k := 1) rfl (by decide) in_J28 (Or.inl q814) (Or.inl rfl) (Or.inl rfl) (fun h => nomatch h) (tyJ28_ok 1 (by decide)) (Or.inl ⟨_, rfl⟩) dJ26_nextEntry_49 ?_
      refine zs_aload_n hE 0 rfl rfl dJ26_nextEntry_52 ?_
      exact zs_aret hE (Or.inl ⟨_, rfl⟩) dJ26_nextEntry_53
    · exact zs_bad
theorem hd_J26_nextEntry__J28 : (yJ26_nextEntry).cls ≠ "java/lang/invoke/MethodHandle" ∧ (yJ26_nextEntry).cls ≠ "java/lang/invoke/VarHandle" ∧ (parseMethodDescriptor (yJ26_nextEntry).desc).map (fun d => d.parameters.length) = some 0 := by decide +kernel
theorem met_J26_nextEntry__J28 (K : ZK) (this : Nat) : zMeth K yJ26_nextEntry (zws yJ26_nextEntry cJ26_nextEntry 2 (Option.some (Jvm.ClassFile.FieldType.object "java/util/TreeMap$Entry"))) 2 122 [.ref this] encR (s_J26_nextEntry__J28 K this) :=
  fun l G hl hK => zmet_of hl hK (by decide +kernel) rfl rfl (by simp [zsl_nil, zsl_rf, zsl_r, zsl_i, zsl_j, zsl_f, zsl_d]) (fun x hE => by simp only [zla_nil, zla_rf, zla_r, zla_i, zla_j, zla_f, zla_d, Nat.reduceAdd]; exact sm_J26_nextEntry__J28 hE this)
theorem sm_J28_next {x : ZX (Option Nat)} {K : ZK} (hE : zE x K cJ28_next RJ28 "next" 1 3 143 encR (Option.some (Jvm.ClassFile.FieldType.object "java/lang/Object")) []) (this : Nat) : zS x 0 [(0, va_rf (some this))] [] (s_J28_next K this) := by
  unfold s_J28_next
  refine zs_aload_n hE 0 rfl rfl dJ28_next_0 ?_
  refine zs_callU hE (xx := ⟨"java/util/TreeMap$ValueIterator", "nextEntry", "()Ljava/util/TreeMap$Entry;"⟩) (owner := "java/util/TreeMap$PrivateEntryIterator") (As := []) (encA := encR) (ci := 8) rfl (fun y0 => met_J26_nextEntry__J28 K y0) q1066 q127 q1095 q1096 (Or.inl (zn q1063 rfl)) (by decide) q1065 q1097 ⟨(hd_J26_nextEntry__J28).1, (hd_J26_nextEntry__J28).2.1, (hdx_h3).2.2⟩ (by decide) (by decide) rfl (by simp [zcat_rf, zcat_i, zcat_j, zcat_f, zcat_d]) (fun z hz => by cases hz) dJ28_next_1 (fun r1 => ?_)
  show zS _ 4 _ [va_rf r1] _
  refine zs_getR hE (ci := 12) (k := 1) rfl (by decide) in_J33 (Or.inl q1674) (Or.inl rfl) dJ28_next_4 (fun v2 => ?_)
  exact zs_aret hE (Or.inl ⟨_, rfl⟩) dJ28_next_7
theorem hd_J28_next : (yJ28_next).cls ≠ "java/lang/invoke/MethodHandle" ∧ (yJ28_next).cls ≠ "java/lang/invoke/VarHandle" ∧ (parseMethodDescriptor (yJ28_next).desc).map (fun d => d.parameters.length) = some 0 := by decide +kernel
theorem met_J28_next (K : ZK) (this : Nat) : zMeth K yJ28_next (zws yJ28_next cJ28_next 1 (Option.some (Jvm.ClassFile.FieldType.object "java/lang/Object"))) 3 143 [.ref this] encR (s_J28_next K this) :=
  fun l G hl hK => zmet_of hl hK (by decide +kernel) rfl rfl (by simp [zsl_nil, zsl_rf, zsl_r, zsl_i, zsl_j, zsl_f, zsl_d]) (fun x hE => by simp only [zla_nil, zla_rf, zla_r, zla_i, zla_j, zla_f, zla_d, Nat.reduceAdd]; exact sm_J28_next hE this)
theorem sm_J2_init__J31 {x : ZX Unit} {K : ZK} (hE : zE x K cJ2_init RJ2 "<init>" 1 1 100 encV none []) (this : Nat) : zS x 0 [(0, va_rf (some this))] [] (s_J2_init__J31 K this) := by
  unfold s_J2_init__J31
  refine zs_aload_n hE 0 rfl rfl dJ2_init_0 ?_
  refine zs_objInit hE q343 q169 q170 (by decide) (by first | decide | simp [zcat_rf, zcat_i, zcat_j, zcat_f, zcat_d]) dJ2_init_1 ?_
  exact zs_vret hE dJ2_init_4
theorem hd_J2_init__J31 : (yJ2_init).cls ≠ "java/lang/invoke/MethodHandle" ∧ (yJ2_init).cls ≠ "java/lang/invoke/VarHandle" ∧ (parseMethodDescriptor (yJ2_init).desc).map (fun d => d.parameters.length) = some 0 := by decide +kernel
theorem met_J2_init__J31 (K : ZK) (this : Nat) : zMeth K yJ2_init (zws yJ2_init cJ2_init 1 none) 1 100 [.ref this] encV (s_J2_init__J31 K this) :=
  fun l G hl hK => zmet_of hl hK (by decide +kernel) rfl rfl (by simp [zsl_nil, zsl_rf, zsl_r, zsl_i, zsl_j, zsl_f, zsl_d]) (fun x hE => by simp only [zla_nil, zla_rf, zla_r, zla_i, zla_j, zla_f, zla_d, Nat.reduceAdd]; exact sm_J2_init__J31 hE this)
theorem sm_J30_init__J31 {x : ZX Unit} {K : ZK} (hE : zE x K cJ30_init RJ30 "<init>" 1 2 120 encV none []) (this : Nat) : zS x 0 [(0, va_rf (some this))] [] (s_J30_init__J31 K this) := by
  unfold s_J30_init__J31
  refine zs_aload_n hE 0 rfl rfl dJ30_init_0 ?_
  refine zs_callI hE (As := []) (encA := encV) (met_J2_init__J31 K this) q342 q99 q1528 q341 rfl hd_J2_init__J31 (by decide) (by decide) rfl (by simp [zcat_rf, zcat_i, zcat_j, zcat_f, zcat_d]) (fun z hz => by cases hz) dJ30_init_1 (fun _ => ?_)
  show zS _ 4 _ [] _
  refine zs_aload_n hE 0 rfl rfl dJ30_init_4 ?_
  refine zs_iconst hE (v := (0 : Int32)) (by decide) dJ30_init_5 ?_
  refine zs_putI hE (ci := 11) (k := 0) rfl (by decide) in_J31 (Or.inl q1535) (Or.inl rfl) (Or.inl rfl) (fun h => nomatch h) rfl dJ30_init_6 ?_
  exact zs_vret hE dJ30_init_9
theorem hd_J30_init__J31 : (yJ30_init).cls ≠ "java/lang/invoke/MethodHandle" ∧ (yJ30_init).cls ≠ "java/lang/invoke/VarHandle" ∧ (parseMethodDescriptor (yJ30_init).desc).map (fun d => d.parameters.length) = some 0 := by decide +kernel
theorem met_J30_init__J31 (K : ZK) (this : Nat) : zMeth K yJ30_init (zws yJ30_init cJ30_init 1 none) 2 120 [.ref this] encV (s_J30_init__J31 K this) :=
  fun l G hl hK => zmet_of hl hK (by decide +kernel) rfl rfl (by simp [zsl_nil, zsl_rf, zsl_r, zsl_i, zsl_j, zsl_f, zsl_d]) (fun x hE => by simp only [zla_nil, zla_rf, zla_r, zla_i, zla_j, zla_f, zla_d, Nat.reduceAdd]; exact sm_J30_init__J31 hE this)
theorem sm_J31_init {x : ZX Unit} {K : ZK} (hE : zE x K cJ31_init RJ31 "<init>" 1 3 140 encV none []) (this : Nat) : zS x 0 [(0, va_rf (some this))] [] (s_J31_init K this) := by
  unfold s_J31_init
  refine zs_aload_n hE 0 rfl rfl dJ31_init_0 ?_
  refine zs_callI hE (As := []) (encA := encV) (met_J30_init__J31 K this) q1527 q132 q1525 q1526 rfl hd_J30_init__J31 (by decide) (by decide) rfl (by simp [zcat_rf, zcat_i, zcat_j, zcat_f, zcat_d]) (fun z hz => by cases hz) dJ31_init_1 (fun _ => ?_)
  show zS _ 4 _ [] _
  refine zs_aload_n hE 0 rfl rfl dJ31_init_4 ?_
  refine zs_gets hE (C := "java/util/ArrayList") (v := .ref (K.1 1)) (by simp [zST]) q1529 (Or.inl rfl) dJ31_init_5 ?_
  show zS _ 8 _ (va_rf (some (K.1 1)) :: _) _
  refine zs_putR hE (ci := 11) (k := 1) rfl (by decide) in_J31 (Or.inl q1531) (Or.inl rfl) (Or.inl rfl) (fun h => nomatch h) (tyJ31_ok 1 (by decide)) (Or.inr ⟨_, rfl⟩) dJ31_init_8 ?_
  exact zs_vret hE dJ31_init_11
theorem hd_J31_init : (yJ31_init).cls ≠ "java/lang/invoke/MethodHandle" ∧ (yJ31_init).cls ≠ "java/lang/invoke/VarHandle" ∧ (parseMethodDescriptor (yJ31_init).desc).map (fun d => d.parameters.length) = some 0 := by decide +kernel
theorem met_J31_init (K : ZK) (this : Nat) : zMeth K yJ31_init (zws yJ31_init cJ31_init 1 none) 3 140 [.ref this] encV (s_J31_init K this) :=
  fun l G hl hK => zmet_of hl hK (by decide +kernel) rfl rfl (by simp [zsl_nil, zsl_rf, zsl_r, zsl_i, zsl_j, zsl_f, zsl_d]) (fun x hE => by simp only [zla_nil, zla_rf, zla_r, zla_i, zla_j, zla_f, zla_d, Nat.reduceAdd]; exact sm_J31_init hE this)
theorem sm_X5_init {x : ZX Unit} {K : ZK} (hE : zE x K cX5_init RX5 "<init>" 2 4 160 encV none []) (this : Nat) (a1 : Int32) : zS x 0 [(0, va_rf (some this)), (1, .int a1)] [] (s_X5_init K this a1) := by
  unfold s_X5_init
  refine zs_aload_n hE 0 rfl rfl dX5_init_0 ?_
  refine zs_objInit hE q1519 q169 q170 (by decide) (by first | decide | simp [zcat_rf, zcat_i, zcat_j, zcat_f, zcat_d]) dX5_init_1 ?_
  refine zs_aload_n hE 0 rfl rfl dX5_init_4 ?_
  refine zs_new hE (ci := 11) (fs := [.int 0, .null, .int 0]) rfl in_J31 tyJ31 tyJ31_ok q1520 q1521 q133 (fun j hj => by rcases (show j = 0 ∨ j = 1 ∨ j = 2 by omega) with rfl | rfl | rfl <;> rfl) dX5_init_5 (fun q1 => ?_)
  refine zs_dup hE (zcat_rf _) dX5_init_8 ?_
  refine zs_callI hE (As := []) (encA := encV) (met_J31_init K q1) q1524 q133 q1522 q1523 rfl hd_J31_init (by decide) (by decide) rfl (by simp [zcat_rf, zcat_i, zcat_j, zcat_f, zcat_d]) (fun z hz => by cases hz) dX5_init_9 (fun _ => ?_)
  show zS _ 12 _ [va_rf (some q1), va_rf (some this)] _
  refine zs_putR hE (ci := 37) (k := 1) rfl (by decide) in_X5 (Or.inl q1551) (Or.inl rfl) (Or.inr ⟨rfl, rfl, rfl⟩) (fun _ => q1551) (tyX5_ok 1 (by decide)) (Or.inl ⟨_, rfl⟩) dX5_init_12 ?_
  refine zs_aload_n hE 0 rfl rfl dX5_init_15 ?_
  refine zs_iload_n hE 1 rfl rfl dX5_init_16 ?_
  refine zs_putI hE (ci := 37) (k := 0) rfl (by decide) in_X5 (Or.inl q1546) (Or.inl rfl) (Or.inr ⟨rfl, rfl, rfl⟩) (fun _ => q1546) rfl dX5_init_17 ?_
  exact zs_vret hE dX5_init_20
theorem hd_X5_init : (yX5_init).cls ≠ "java/lang/invoke/MethodHandle" ∧ (yX5_init).cls ≠ "java/lang/invoke/VarHandle" ∧ (parseMethodDescriptor (yX5_init).desc).map (fun d => d.parameters.length) = some 1 := by decide +kernel
theorem met_X5_init (K : ZK) (this : Nat) (a1 : Int32) : zMeth K yX5_init (zws yX5_init cX5_init 2 none) 4 160 [.ref this, .int a1] encV (s_X5_init K this a1) :=
  fun l G hl hK => zmet_of hl hK (by decide +kernel) rfl rfl (by simp [zsl_nil, zsl_rf, zsl_r, zsl_i, zsl_j, zsl_f, zsl_d]) (fun x hE => by simp only [zla_nil, zla_rf, zla_r, zla_i, zla_j, zla_f, zla_d, Nat.reduceAdd]; exact sm_X5_init hE this a1)
theorem sm_J23_init {x : ZX Unit} {K : ZK} (hE : zE x K cJ23_init RJ23 "<init>" 2 1 100 encV none []) (this : Nat) (a1 : Option Nat) : zS x 0 [(0, va_rf (some this)), (1, va_rf a1)] [] (s_J23_init K this a1) := by
  unfold s_J23_init
  refine zs_aload_n hE 0 rfl rfl dJ23_init_0 ?_
  refine zs_aload_n hE 1 rfl rfl dJ23_init_1 ?_
  refine zs_putR hE (ci := 5) (k := 3) rfl (by decide) in_J23 (Or.inl q489) (Or.inl rfl) (Or.inr ⟨rfl, rfl, rfl⟩) (fun _ => q489) (tyJ23_ok 3 (by decide)) (Or.inl ⟨_, rfl⟩) dJ23_init_2 ?_
  refine zs_aload_n hE 0 rfl rfl dJ23_init_5 ?_
  refine zs_objInit hE q485 q169 q170 (by decide) (by first | decide | simp [zcat_rf, zcat_i, zcat_j, zcat_f, zcat_d]) dJ23_init_6 ?_
  refine zs_aload_n hE 0 rfl rfl dJ23_init_9 ?_
  refine zs_iconst hE (v := (-1 : Int32)) (by decide) dJ23_init_10 ?_
  refine zs_putI hE (ci := 5) (k := 1) rfl (by decide) in_J23 (Or.inl q487) (Or.inl rfl) (Or.inl rfl) (fun h => nomatch h) rfl dJ23_init_11 ?_
  refine zs_aload_n hE 0 rfl rfl dJ23_init_14 ?_
  refine zs_aload_n hE 0 rfl rfl dJ23_init_15 ?_
  refine zs_getR hE (ci := 5) (k := 3) rfl (by decide) in_J23 (Or.inl q489) (Or.inl rfl) dJ23_init_16 (fun v1 => ?_)
  refine zs_getI hE (ci := 11) (k := 0) rfl (by decide) in_J31 (Or.inl q1536) (Or.inr q1537) dJ23_init_19 (fun v2 => ?_)
  refine zs_putI hE (ci := 5) (k := 2) rfl (by decide) in_J23 (Or.inl q488) (Or.inl rfl) (Or.inl rfl) (fun h => nomatch h) rfl dJ23_init_22 ?_
  exact zs_vret hE dJ23_init_25
theorem hd_J23_init : (yJ23_init).cls ≠ "java/lang/invoke/MethodHandle" ∧ (yJ23_init).cls ≠ "java/lang/invoke/VarHandle" ∧ (parseMethodDescriptor (yJ23_init).desc).map (fun d => d.parameters.length) = some 1 := by decide +kernel
theorem met_J23_init (K : ZK) (this : Nat) (a1 : Option Nat) : zMeth K yJ23_init (zws yJ23_init cJ23_init 2 none) 1 100 [.ref this, va_rf a1] encV (s_J23_init K this a1) :=
  fun l G hl hK => zmet_of hl hK (by decide +kernel) rfl rfl (by simp [zsl_nil, zsl_rf, zsl_r, zsl_i, zsl_j, zsl_f, zsl_d]) (fun x hE => by simp only [zla_nil, zla_rf, zla_r, zla_i, zla_j, zla_f, zla_d, Nat.reduceAdd]; exact sm_J23_init hE this a1)
theorem sm_J31_iterator {x : ZX (Option Nat)} {K : ZK} (hE : zE x K cJ31_iterator RJ31 "iterator" 1 2 121 encR (Option.some (Jvm.ClassFile.FieldType.object "java/util/Iterator")) []) (this : Nat) : zS x 0 [(0, va_rf (some this))] [] (s_J31_iterator K this) := by
  unfold s_J31_iterator
  refine zs_new hE (ci := 5) (fs := [.int 0, .int 0, .int 0, .null]) rfl in_J23 tyJ23 tyJ23_ok q480 q481 q124 (fun j hj => by rcases (show j = 0 ∨ j = 1 ∨ j = 2 ∨ j = 3 by omega) with rfl | rfl | rfl | rfl <;> rfl) dJ31_iterator_0 (fun q1 => ?_)
  refine zs_dup hE (zcat_rf _) dJ31_iterator_3 ?_
  refine zs_aload_n hE 0 rfl rfl dJ31_iterator_4 ?_
  refine zs_callI hE (As := [va_rf (some this)]) (encA := encV) (met_J23_init K q1 (some this)) q484 q124 q482 q483 rfl hd_J23_init (by decide) (by decide) rfl (by simp [zcat_rf, zcat_i, zcat_j, zcat_f, zcat_d]) (fun z hz => by cases hz) dJ31_iterator_5 (fun _ => ?_)
  show zS _ 8 _ [va_rf (some q1)] _
  exact zs_aret hE (Or.inl ⟨_, rfl⟩) dJ31_iterator_8
theorem hd_J31_iterator : (yJ31_iterator).cls ≠ "java/lang/invoke/MethodHandle" ∧ (yJ31_iterator).cls ≠ "java/lang/invoke/VarHandle" ∧ (parseMethodDescriptor (yJ31_iterator).desc).map (fun d => d.parameters.length) = some 0 := by decide +kernel
theorem met_J31_iterator (K : ZK) (this : Nat) : zMeth K yJ31_iterator (zws yJ31_iterator cJ31_iterator 1 (Option.some (Jvm.ClassFile.FieldType.object "java/util/Iterator"))) 2 121 [.ref this] encR (s_J31_iterator K this) :=
  fun l G hl hK => zmet_of hl hK (by decide +kernel) rfl rfl (by simp [zsl_nil, zsl_rf, zsl_r, zsl_i, zsl_j, zsl_f, zsl_d]) (fun x hE => by simp only [zla_nil, zla_rf, zla_r, zla_i, zla_j, zla_f, zla_d, Nat.reduceAdd]; exact sm_J31_iterator hE this)
theorem sm_J23_hasNext {x : ZX Int32} {K : ZK} (hE : zE x K cJ23_hasNext RJ23 "hasNext" 1 1 100 encI (Option.some Jvm.ClassFile.FieldType.boolean) []) (this : Nat) : zS x 0 [(0, va_rf (some this))] [] (s_J23_hasNext K this) := by
  unfold s_J23_hasNext
  refine zs_aload_n hE 0 rfl rfl dJ23_hasNext_0 ?_
  refine zs_getI hE (ci := 5) (k := 0) rfl (by decide) in_J23 (Or.inl q486) (Or.inl rfl) dJ23_hasNext_1 (fun v1 => ?_)
  refine zs_aload_n hE 0 rfl rfl dJ23_hasNext_4 ?_
  refine zs_getR hE (ci := 5) (k := 3) rfl (by decide) in_J23 (Or.inl q489) (Or.inl rfl) dJ23_hasNext_5 (fun v2 => ?_)
  refine zs_getI hE (ci := 11) (k := 2) rfl (by decide) in_J31 (Or.inr ⟨_, zn q1533 rfl⟩) (Or.inl rfl) dJ23_hasNext_8 (fun v3 => ?_)
  refine zs_icmp_eq hE 18 (by decide) dJ23_hasNext_11 ?_ ?_
  · refine zs_iconst hE (v := (0 : Int32)) (by decide) dJ23_hasNext_18 ?_
    exact zs_zret hE rfl dJ23_hasNext_19
  · refine zs_iconst hE (v := (1 : Int32)) (by decide) dJ23_hasNext_14 ?_
    refine zs_goto hE 19 (by decide) dJ23_hasNext_15 ?_
    exact zs_zret hE rfl dJ23_hasNext_19
theorem hd_J23_hasNext : (yJ23_hasNext).cls ≠ "java/lang/invoke/MethodHandle" ∧ (yJ23_hasNext).cls ≠ "java/lang/invoke/VarHandle" ∧ (parseMethodDescriptor (yJ23_hasNext).desc).map (fun d => d.parameters.length) = some 0 := by decide +kernel
theorem met_J23_hasNext (K : ZK) (this : Nat) : zMeth K yJ23_hasNext (zws yJ23_hasNext cJ23_hasNext 1 (Option.some Jvm.ClassFile.FieldType.boolean)) 1 100 [.ref this] encI (s_J23_hasNext K this) :=
  fun l G hl hK => zmet_of hl hK (by decide +kernel) rfl rfl (by simp [zsl_nil, zsl_rf, zsl_r, zsl_i, zsl_j, zsl_f, zsl_d]) (fun x hE => by simp only [zla_nil, zla_rf, zla_r, zla_i, zla_j, zla_f, zla_d, Nat.reduceAdd]; exact sm_J23_hasNext hE this)
theorem sm_J23_checkForComodification {x : ZX Unit} {K : ZK} (hE : zE x K cJ23_checkForComodification RJ23 "checkForComodification" 1 1 100 encV none []) (this : Nat) : zS x 0 [(0, va_rf (some this))] [] (s_J23_checkForComodification K this) := by
  unfold s_J23_checkForComodification
  refine zs_aload_n hE 0 rfl rfl dJ23_checkForComodification_0 ?_
  refine zs_getR hE (ci := 5) (k := 3) rfl (by decide) in_J23 (Or.inl q489) (Or.inl rfl) dJ23_checkForComodification_1 (fun v1 => ?_)
  refine zs_getI hE (ci := 11) (k := 0) rfl (by decide) in_J31 (Or.inl q1536) (Or.inr q1537) dJ23_checkForComodification_4 (fun v2 => ?_)
  refine zs_aload_n hE 0 rfl rfl dJ23_checkForComodification_7 ?_
  refine zs_getI hE (ci := 5) (k := 2) rfl (by decide) in_J23 (Or.inl q488) (Or.inl rfl) dJ23_checkForComodification_8 (fun v3 => ?_)
  refine zs_icmp_eq hE 22 (by decide) dJ23_checkForComodification_11 ?_ ?_
  · exact zs_vret hE dJ23_checkForComodification_22
  · exact zs_bad
theorem hd_J23_checkForComodification : (yJ23_checkForComodification).cls ≠ "java/lang/invoke/MethodHandle" ∧ (yJ23_checkForComodification).cls ≠ "java/lang/invoke/VarHandle" ∧ (parseMethodDescriptor (yJ23_checkForComodification).desc).map (fun d => d.parameters.length) = some 0 := by decide +kernel
theorem met_J23_checkForComodification (K : ZK) (this : Nat) : zMeth K yJ23_checkForComodification (zws yJ23_checkForComodification cJ23_checkForComodification 1 none) 1 100 [.ref this] encV (s_J23_checkForComodification K this) :=
  fun l G hl hK => zmet_of hl hK (by decide +kernel) rfl rfl (by simp [zsl_nil, zsl_rf, zsl_r, zsl_i, zsl_j, zsl_f, zsl_d]) (fun x hE => by simp only [zla_nil, zla_rf, zla_r, zla_i, zla_j, zla_f, zla_d, Nat.reduceAdd]; exact sm_J23_checkForComodification hE this)
theorem sm_J23_next {x : ZX (Option Nat)} {K : ZK} (hE : zE x K cJ23_next RJ23 "next" 3 2 120 encR (Option.some (Jvm.ClassFile.FieldType.object "java/lang/Object")) []) (this : Nat) : zS x 0 [(0, va_rf (some this))] [] (s_J23_next K this) := by
  unfold s_J23_next
  refine zs_aload_n hE 0 rfl rfl dJ23_next_0 ?_
  refine zs_callV hE (As := []) (encA := encV) (ci := 5) rfl (fun y0 => met_J23_checkForComodification K y0) q1049 q124 q1046 q1047 (zq q1048) hd_J23_checkForComodification (by decide) (by decide) rfl (by simp [zcat_rf, zcat_i, zcat_j, zcat_f, zcat_d]) (fun z hz => by cases hz) dJ23_next_1 (fun _ => ?_)
  show zS _ 4 _ [] _
  refine zs_aload_n hE 0 rfl rfl dJ23_next_4 ?_
  refine zs_getI hE (ci := 5) (k := 0) rfl (by decide) in_J23 (Or.inl q486) (Or.inl rfl) dJ23_next_5 (fun v1 => ?_)
  refine zs_istore_n hE (i := 1) (q := 1) rfl (by decide) (zcat_rf (some this)) (lv' := [(0, va_rf (some this))]) rfl dJ23_next_8 ?_
  refine zs_iload_n hE 0 rfl rfl dJ23_next_9 ?_
  refine zs_aload_n hE 1 rfl rfl dJ23_next_10 ?_
  refine zs_getR hE (ci := 5) (k := 3) rfl (by decide) in_J23 (Or.inl q489) (Or.inl rfl) dJ23_next_11 (fun v2 => ?_)
  refine zs_getI hE (ci := 11) (k := 2) rfl (by decide) in_J31 (Or.inr ⟨_, zn q1533 rfl⟩) (Or.inl rfl) dJ23_next_14 (fun v3 => ?_)
  refine zs_icmp_lt hE 28 (by decide) dJ23_next_17 ?_ ?_
  · refine zs_aload_n hE 1 rfl rfl dJ23_next_28 ?_
    refine zs_getR hE (ci := 5) (k := 3) rfl (by decide) in_J23 (Or.inl q489) (Or.inl rfl) dJ23_next_29 (fun v4 => ?_)
    refine zs_getR hE (ci := 11) (k := 1) rfl (by decide) in_J31 (Or.inl q1532) (Or.inl rfl) dJ23_next_32 (fun v5 => ?_)
    refine zs_astore_n hE (i := 2) (q := 2) rfl (by decide) (rfl) (lv' := [(1, .int v1), (0, va_rf (some this))]) rfl dJ23_next_35 ?_
    refine zs_iload_n hE 1 rfl rfl dJ23_next_36 ?_
    refine zs_aload_n hE 0 rfl rfl dJ23_next_37 ?_
    refine zs_len hE (t := 4) rfl dJ23_next_38 (fun v6 => ?_)
    refine zs_icmp_lt hE 50 (by decide) dJ23_next_39 ?_ ?_
    · refine zs_aload_n hE 2 rfl rfl dJ23_next_50 ?_
      refine zs_iload_n hE 1 rfl rfl dJ23_next_51 ?_
      refine zs_iconst hE (v := (1 : Int32)) (by decide) dJ23_next_52 ?_
      refine zs_iadd hE dJ23_next_53 ?_
      refine zs_putI hE (ci := 5) (k := 0) rfl (by decide) in_J23 (Or.inl q486) (Or.inl rfl) (Or.inl rfl) (fun h => nomatch h) rfl dJ23_next_54 ?_
      refine zs_aload_n hE 0 rfl rfl dJ23_next_57 ?_
      refine zs_aload_n hE 2 rfl rfl dJ23_next_58 ?_
      refine zs_iload_n hE 1 rfl rfl dJ23_next_59 ?_
      refine zs_dup_x1 hE (rfl) (zcat_rf _) dJ23_next_60 ?_
      refine zs_putI hE (ci := 5) (k := 1) rfl (by decide) in_J23 (Or.inl q487) (Or.inl rfl) (Or.inl rfl) (fun h => nomatch h) rfl dJ23_next_61 ?_
      refine zs_aldR hE dJ23_next_64 (fun v7 => ?_)
      exact zs_aret hE (Or.inl ⟨_, rfl⟩) dJ23_next_65
    · exact zs_bad
  · exact zs_bad
theorem hd_J23_next : (yJ23_next).cls ≠ "java/lang/invoke/MethodHandle" ∧ (yJ23_next).cls ≠ "java/lang/invoke/VarHandle" ∧ (parseMethodDescriptor (yJ23_next).desc).map (fun d => d.parameters.length) = some 0 := by decide +kernel
theorem met_J23_next (K : ZK) (this : Nat) : zMeth K yJ23_next (zws yJ23_next cJ23_next 3 (Option.some (Jvm.ClassFile.FieldType.object "java/lang/Object"))) 2 120 [.ref this] encR (s_J23_next K this) :=
  fun l G hl hK => zmet_of hl hK (by decide +kernel) rfl rfl (by simp [zsl_nil, zsl_rf, zsl_r, zsl_i, zsl_j, zsl_f, zsl_d]) (fun x hE => by simp only [zla_nil, zla_rf, zla_r, zla_i, zla_j, zla_f, zla_d, Nat.reduceAdd]; exact sm_J23_next hE this)
theorem sm_J16_max {x : ZX Int32} {K : ZK} (hE : zE x K cJ16_max RJ16 "max" 2 1 100 encI (Option.some Jvm.ClassFile.FieldType.int) []) (a1 : Int32) (a2 : Int32) : zS x 0 [(0, .int a1), (1, .int a2)] [] (s_J16_max K a1 a2) := by
  unfold s_J16_max
  refine zs_iload_n hE 0 rfl rfl dJ16_max_0 ?_
  refine zs_iload_n hE 1 rfl rfl dJ16_max_1 ?_
  refine zs_icmp_lt hE 9 (by decide) dJ16_max_2 ?_ ?_
  · refine zs_iload_n hE 1 rfl rfl dJ16_max_9 ?_
    exact zs_iret hE dJ16_max_10
  · refine zs_iload_n hE 0 rfl rfl dJ16_max_5 ?_
    refine zs_goto hE 10 (by decide) dJ16_max_6 ?_
    exact zs_iret hE dJ16_max_10
theorem hd_J16_max : (yJ16_max).cls ≠ "java/lang/invoke/MethodHandle" ∧ (yJ16_max).cls ≠ "java/lang/invoke/VarHandle" ∧ (parseMethodDescriptor (yJ16_max).desc).map (fun d => d.parameters.length) = some 2 := by decide +kernel
theorem met_J16_max (K : ZK) (a1 : Int32) (a2 : Int32) : zMeth K yJ16_max (zws yJ16_max cJ16_max 2 (Option.some Jvm.ClassFile.FieldType.int)) 1 100 [.int a1, .int a2] encI (s_J16_max K a1 a2) :=
  fun l G hl hK => zmet_of hl hK (by decide +kernel) rfl rfl (by simp [zsl_nil, zsl_rf, zsl_r, zsl_i, zsl_j, zsl_f, zsl_d]) (fun x hE => by simp only [zla_nil, zla_rf, zla_r, zla_i, zla_j, zla_f, zla_d, Nat.reduceAdd]; exact sm_J16_max hE a1 a2)
theorem sm_J17_hugeLength {x : ZX Int32} {K : ZK} (hE : zE x K cJ17_hugeLength RJ17 "hugeLength" 3 1 100 encI (Option.some Jvm.ClassFile.FieldType.int) []) (a1 : Int32) (a2 : Int32) : zS x 0 [(0, .int a1), (1, .int a2)] [] (s_J17_hugeLength K a1 a2) := by
  unfold s_J17_hugeLength
  refine zs_iload_n hE 0 rfl rfl dJ17_hugeLength_0 ?_
  refine zs_iload_n hE 1 rfl rfl dJ17_hugeLength_1 ?_
  refine zs_iadd hE dJ17_hugeLength_2 ?_
  refine zs_istore_n hE (i := 2) (q := 2) rfl (by decide) (rfl) (lv' := [(0, .int a1), (1, .int a2)]) rfl dJ17_hugeLength_3 ?_
  refine zs_iload_n hE 0 rfl rfl dJ17_hugeLength_4 ?_
  refine zs_if_ge hE 49 (by decide) dJ17_hugeLength_5 ?_ ?_
  · refine zs_iload_n hE 0 rfl rfl dJ17_hugeLength_49 ?_
    refine zs_ldc hE q1155 dJ17_hugeLength_50 ?_
    refine zs_icmp_gt hE 58 (by decide) dJ17_hugeLength_52 ?_ ?_
    · refine zs_iload_n hE 0 rfl rfl dJ17_hugeLength_58 ?_
      exact zs_iret hE dJ17_hugeLength_59
    · refine zs_ldc hE q1155 dJ17_hugeLength_55 ?_
      exact zs_iret hE dJ17_hugeLength_57
  · exact zs_bad
theorem hd_J17_hugeLength : (yJ17_hugeLength).cls ≠ "java/lang/invoke/MethodHandle" ∧ (yJ17_hugeLength).cls ≠ "java/lang/invoke/VarHandle" ∧ (parseMethodDescriptor (yJ17_hugeLength).desc).map (fun d => d.parameters.length) = some 2 := by decide +kernel
theorem met_J17_hugeLength (K : ZK) (a1 : Int32) (a2 : Int32) : zMeth K yJ17_hugeLength (zws yJ17_hugeLength cJ17_hugeLength 3 (Option.some Jvm.ClassFile.FieldType.int)) 1 100 [.int a1, .int a2] encI (s_J17_hugeLength K a1 a2) :=
  fun l G hl hK => zmet_of hl hK (by decide +kernel) rfl rfl (by simp [zsl_nil, zsl_rf, zsl_r, zsl_i, zsl_j, zsl_f, zsl_d]) (fun x hE => by simp only [zla_nil, zla_rf, zla_r, zla_i, zla_j, zla_f, zla_d, Nat.reduceAdd]; exact sm_J17_hugeLength hE a1 a2)
theorem sm_J17_newLength_J21 {x : ZX Int32} {K : ZK} (hE : zE x K cJ17_newLength RJ17 "newLength" 4 2 122 encI (Option.some Jvm.ClassFile.FieldType.int) []) (x0 : Int32) (x1 : Int32) : zS x 21 [(0, .int x0), (1, .int x1)] [] (s_J17_newLength_J21 K x0 x1) := by
  unfold s_J17_newLength_J21
  refine zs_iload_n hE 0 rfl rfl dJ17_newLength_21 ?_
  refine zs_iload_n hE 1 rfl rfl dJ17_newLength_22 ?_
  refine zs_callS hE (As := [.int x0, .int x1]) (encA := encI) (met_J17_hugeLength K x0 x1) q1158 q117 q1156 q1157 hd_J17_hugeLength (by decide) (by decide) rfl (by simp [zcat_rf, zcat_i, zcat_j, zcat_f, zcat_d]) (fun z hz => by cases hz) dJ17_newLength_23 (fun r2 => ?_)
  show zS _ 26 _ [.int r2] _
  exact zs_iret hE dJ17_newLength_26
theorem sm_J17_newLength {x : ZX Int32} {K : ZK} (hE : zE x K cJ17_newLength RJ17 "newLength" 4 2 122 encI (Option.some Jvm.ClassFile.FieldType.int) []) (a1 : Int32) (a2 : Int32) (a3 : Int32) : zS x 0 [(0, .int a1), (1, .int a2), (2, .int a3)] [] (s_J17_newLength K a1 a2 a3) := by
  unfold s_J17_newLength
  refine zs_iload_n hE 0 rfl rfl dJ17_newLength_0 ?_
  refine zs_iload_n hE 1 rfl rfl dJ17_newLength_1 ?_
  refine zs_iload_n hE 2 rfl rfl dJ17_newLength_2 ?_
  refine zs_callS hE (As := [.int a2, .int a3]) (encA := encI) (met_J16_max K a2 a3) q1154 q116 q1152 q1153 hd_J16_max (by decide) (by decide) rfl (by simp [zcat_rf, zcat_i, zcat_j, zcat_f, zcat_d]) (fun z hz => by cases hz) dJ17_newLength_3 (fun r1 => ?_)
  show zS _ 6 _ [.int r1, .int a1] _
  refine zs_iadd hE dJ17_newLength_6 ?_
  refine zs_istore_n hE (i := 3) (q := 3) rfl (by decide) (rfl) (lv' := [(0, .int a1), (1, .int a2), (2, .int a3)]) rfl dJ17_newLength_7 ?_
  refine zs_iconst hE (v := (0 : Int32)) (by decide) dJ17_newLength_8 ?_
  refine zs_iload_n hE 0 rfl rfl dJ17_newLength_9 ?_
  refine zs_icmp_ge hE 21 (by decide) dJ17_newLength_10 ?_ ?_
  · refine zs_sub [1, 2] rfl ?_
    exact sm_J17_newLength_J21 hE a1 a2
  · refine zs_iload_n hE 0 rfl rfl dJ17_newLength_13 ?_
    refine zs_ldc hE q1155 dJ17_newLength_14 ?_
    refine zs_icmp_gt hE 21 (by decide) dJ17_newLength_16 ?_ ?_
    · refine zs_sub [1, 2] rfl ?_
      exact sm_J17_newLength_J21 hE a1 a2
    · refine zs_iload_n hE 0 rfl rfl dJ17_newLength_19 ?_
      exact zs_iret hE dJ17_newLength_20
theorem hd_J17_newLength : (yJ17_newLength).cls ≠ "java/lang/invoke/MethodHandle" ∧ (yJ17_newLength).cls ≠ "java/lang/invoke/VarHandle" ∧ (parseMethodDescriptor (yJ17_newLength).desc).map (fun d => d.parameters.length) = some 3 := by decide +kernel
theorem met_J17_newLength (K : ZK) (a1 : Int32) (a2 : Int32) (a3 : Int32) : zMeth K yJ17_newLength (zws yJ17_newLength cJ17_newLength 4 (Option.some Jvm.ClassFile.FieldType.int)) 2 122 [.int a1, .int a2, .int a3] encI (s_J17_newLength K a1 a2 a3) :=
  fun l G hl hK => zmet_of hl hK (by decide +kernel) rfl rfl (by simp [zsl_nil, zsl_rf, zsl_r, zsl_i, zsl_j, zsl_f, zsl_d]) (fun x hE => by simp only [zla_nil, zla_rf, zla_r, zla_i, zla_j, zla_f, zla_d, Nat.reduceAdd]; exact sm_J17_newLength hE a1 a2 a3)
theorem sm_J16_min {x : ZX Int32} {K : ZK} (hE : zE x K cJ16_min RJ16 "min" 2 1 100 encI (Option.some Jvm.ClassFile.FieldType.int) []) (a1 : Int32) (a2 : Int32) : zS x 0 [(0, .int a1), (1, .int a2)] [] (s_J16_min K a1 a2) := by
  unfold s_J16_min
  refine zs_iload_n hE 0 rfl rfl dJ16_min_0 ?_
  refine zs_iload_n hE 1 rfl rfl dJ16_min_1 ?_
  refine zs_icmp_gt hE 9 (by decide) dJ16_min_2 ?_ ?_
  · refine zs_iload_n hE 1 rfl rfl dJ16_min_9 ?_
    exact zs_iret hE dJ16_min_10
  · refine zs_iload_n hE 0 rfl rfl dJ16_min_5 ?_
    refine zs_goto hE 10 (by decide) dJ16_min_6 ?_
    exact zs_iret hE dJ16_min_10
theorem hd_J16_min : (yJ16_min).cls ≠ "java/lang/invoke/MethodHandle" ∧ (yJ16_min).cls ≠ "java/lang/invoke/VarHandle" ∧ (parseMethodDescriptor (yJ16_min).desc).map (fun d => d.parameters.length) = some 2 := by decide +kernel
theorem met_J16_min (K : ZK) (a1 : Int32) (a2 : Int32) : zMeth K yJ16_min (zws yJ16_min cJ16_min 2 (Option.some Jvm.ClassFile.FieldType.int)) 1 100 [.int a1, .int a2] encI (s_J16_min K a1 a2) :=
  fun l G hl hK => zmet_of hl hK (by decide +kernel) rfl rfl (by simp [zsl_nil, zsl_rf, zsl_r, zsl_i, zsl_j, zsl_f, zsl_d]) (fun x hE => by simp only [zla_nil, zla_rf, zla_r, zla_i, zla_j, zla_f, zla_d, Nat.reduceAdd]; exact sm_J16_min hE a1 a2)
theorem sm_J32_copyOf_3_J24 {x : ZX (Option Nat)} {K : ZK} (hE : zE x K cJ32_copyOf_3 RJ32 "copyOf" 4 2 121 encR (Option.some (Jvm.ClassFile.FieldType.array (Jvm.ClassFile.FieldType.object "java/lang/Object"))) []) (x0 : Option Nat) (x1 : Int32) (t0 : Nat) : zS x 24 [(0, va_rf x0), (1, .int x1)] [va_rf (some t0)] (s_J32_copyOf_3_J24 K x0 x1 t0) := by
  unfold s_J32_copyOf_3_J24
  refine zs_astore_n hE (i := 3) (q := 3) rfl (by decide) (trivial) (lv' := [(0, va_rf x0), (1, .int x1)]) rfl dJ32_copyOf_3_24 ?_
  refine zs_aload_n hE 1 rfl rfl dJ32_copyOf_3_25 ?_
  refine zs_iconst hE (v := (0 : Int32)) (by decide) dJ32_copyOf_3_26 ?_
  refine zs_aload_n hE 0 rfl rfl dJ32_copyOf_3_27 ?_
  refine zs_iconst hE (v := (0 : Int32)) (by decide) dJ32_copyOf_3_28 ?_
  refine zs_aload_n hE 1 rfl rfl dJ32_copyOf_3_29 ?_
  refine zs_len hE (t := 4) rfl dJ32_copyOf_3_30 (fun v2 => ?_)
  refine zs_iload_n hE 2 rfl rfl dJ32_copyOf_3_31 ?_
  refine zs_callS hE (As := [.int v2, .int x1]) (encA := encI) (met_J16_min K v2 x1) q568 q116 q1170 q567 hd_J16_min (by decide) (by decide) rfl (by simp [zcat_rf, zcat_i, zcat_j, zcat_f, zcat_d]) (fun z hz => by cases hz) dJ32_copyOf_3_32 (fun r3 => ?_)
  show zS _ 35 _ [.int r3, .int (0 : Int32), va_rf (some t0), .int (0 : Int32), va_rf x0] _
  refine zs_copyR hE q1171 q1173 q1172 q135 (by decide) (by decide) dJ32_copyOf_3_35 ?_
  refine zs_aload_n hE 0 rfl rfl dJ32_copyOf_3_38 ?_
  exact zs_aret hE (Or.inr ⟨_, rfl⟩) dJ32_copyOf_3_39
theorem sm_J32_copyOf_3 {x : ZX (Option Nat)} {K : ZK} (hE : zE x K cJ32_copyOf_3 RJ32 "copyOf" 4 2 121 encR (Option.some (Jvm.ClassFile.FieldType.array (Jvm.ClassFile.FieldType.object "java/lang/Object"))) []) (a1 : Option Nat) (a2 : Int32) (a3 : Option Nat) : zS x 0 [(0, va_rf a1), (1, .int a2), (2, va_rf a3)] [] (s_J32_copyOf_3 K a1 a2 a3) := by
  unfold s_J32_copyOf_3
  refine zs_aload_n hE 2 rfl rfl dJ32_copyOf_3_0 ?_
  refine zs_ldcM hE q1647 dJ32_copyOf_3_1 ?_
  refine zs_acmp_ne hE 13 (by decide) dJ32_copyOf_3_3 ?_ ?_
  · refine zs_iload_n hE 1 rfl rfl dJ32_copyOf_3_6 ?_
    refine zs_newR hE q1648 dJ32_copyOf_3_7 (fun q1 => ?_)
    refine zs_goto hE 24 (by decide) dJ32_copyOf_3_10 ?_
    refine zs_sub [0, 1] rfl ?_
    exact sm_J32_copyOf_3_J24 hE a1 a2 q1
  · refine zs_aload_n hE 2 rfl rfl dJ32_copyOf_3_13 ?_
    exact zs_bad
theorem hd_J32_copyOf_3 : (yJ32_copyOf_3).cls ≠ "java/lang/invoke/MethodHandle" ∧ (yJ32_copyOf_3).cls ≠ "java/lang/invoke/VarHandle" ∧ (parseMethodDescriptor (yJ32_copyOf_3).desc).map (fun d => d.parameters.length) = some 3 := by decide +kernel
theorem met_J32_copyOf_3 (K : ZK) (a1 : Option Nat) (a2 : Int32) (a3 : Option Nat) : zMeth K yJ32_copyOf_3 (zws yJ32_copyOf_3 cJ32_copyOf_3 4 (Option.some (Jvm.ClassFile.FieldType.array (Jvm.ClassFile.FieldType.object "java/lang/Object")))) 2 121 [va_rf a1, .int a2, va_rf a3] encR (s_J32_copyOf_3 K a1 a2 a3) :=
  fun l G hl hK => zmet_of hl hK (by decide +kernel) rfl rfl (by simp [zsl_nil, zsl_rf, zsl_r, zsl_i, zsl_j, zsl_f, zsl_d]) (fun x hE => by simp only [zla_nil, zla_rf, zla_r, zla_i, zla_j, zla_f, zla_d, Nat.reduceAdd]; exact sm_J32_copyOf_3 hE a1 a2 a3)
theorem sm_J32_copyOf_2 {x : ZX (Option Nat)} {K : ZK} (hE : zE x K cJ32_copyOf_2 RJ32 "copyOf" 2 3 144 encR (Option.some (Jvm.ClassFile.FieldType.array (Jvm.ClassFile.FieldType.object "java/lang/Object"))) []) (a1 : Option Nat) (a2 : Int32) : zS x 0 [(0, va_rf a1), (1, .int a2)] [] (s_J32_copyOf_2 K a1 a2) := by
  unfold s_J32_copyOf_2
  refine zs_aload_n hE 0 rfl rfl dJ32_copyOf_2_0 ?_
  refine zs_iload_n hE 1 rfl rfl dJ32_copyOf_2_1 ?_
  refine zs_aload_n hE 0 rfl rfl dJ32_copyOf_2_2 ?_
  refine zs_getC hE q1597 q3356 q1598 q1643 (by decide) (by simp [zcat_rf, zcat_i, zcat_j, zcat_f, zcat_d]) dJ32_copyOf_2_3 ?_
  refine zs_callS hE (As := [va_rf a1, .int a2, va_rf (some (K.1 20))]) (encA := encR) (met_J32_copyOf_3 K a1 a2 (some (K.1 20))) q1646 q134 q1644 q1645 hd_J32_copyOf_3 (by decide) (by decide) rfl (by simp [zcat_rf, zcat_i, zcat_j, zcat_f, zcat_d]) (fun z hz => by cases hz) dJ32_copyOf_2_6 (fun r1 => ?_)
  show zS _ 9 _ [va_rf r1] _
  exact zs_aret hE (Or.inr ⟨_, rfl⟩) dJ32_copyOf_2_9
theorem hd_J32_copyOf_2 : (yJ32_copyOf_2).cls ≠ "java/lang/invoke/MethodHandle" ∧ (yJ32_copyOf_2).cls ≠ "java/lang/invoke/VarHandle" ∧ (parseMethodDescriptor (yJ32_copyOf_2).desc).map (fun d => d.parameters.length) = some 2 := by decide +kernel
theorem met_J32_copyOf_2 (K : ZK) (a1 : Option Nat) (a2 : Int32) : zMeth K yJ32_copyOf_2 (zws yJ32_copyOf_2 cJ32_copyOf_2 2 (Option.some (Jvm.ClassFile.FieldType.array (Jvm.ClassFile.FieldType.object "java/lang/Object")))) 3 144 [va_rf a1, .int a2] encR (s_J32_copyOf_2 K a1 a2) :=
  fun l G hl hK => zmet_of hl hK (by decide +kernel) rfl rfl (by simp [zsl_nil, zsl_rf, zsl_r, zsl_i, zsl_j, zsl_f, zsl_d]) (fun x hE => by simp only [zla_nil, zla_rf, zla_r, zla_i, zla_j, zla_f, zla_d, Nat.reduceAdd]; exact sm_J32_copyOf_2 hE a1 a2)
theorem sm_J31_grow_2_J20 {x : ZX (Option Nat)} {K : ZK} (hE : zE x K cJ31_grow_2 RJ31 "grow" 4 4 165 encR (Option.some (Jvm.ClassFile.FieldType.array (Jvm.ClassFile.FieldType.object "java/lang/Object"))) []) (x0 : Nat) (x1 : Int32) (x2 : Int32) : zS x 20 [(0, va_rf (some x0)), (1, .int x1), (2, .int x2)] [] (s_J31_grow_2_J20 K x0 x1 x2) := by
  unfold s_J31_grow_2_J20
  refine zs_iload_n hE 2 rfl rfl dJ31_grow_2_20 ?_
  refine zs_iload_n hE 1 rfl rfl dJ31_grow_2_21 ?_
  refine zs_iload_n hE 2 rfl rfl dJ31_grow_2_22 ?_
  refine zs_isub hE dJ31_grow_2_23 ?_
  refine zs_iload_n hE 2 rfl rfl dJ31_grow_2_24 ?_
  refine zs_iconst hE (v := (1 : Int32)) (by decide) dJ31_grow_2_25 ?_
  refine zs_ishr hE dJ31_grow_2_26 ?_
  refine zs_callS hE (As := [.int x2, .int (x1 - x2), .int (x2 >>> ((1 : Int32) &&& 31))]) (encA := encI) (met_J17_newLength K x2 (x1 - x2) (x2 >>> ((1 : Int32) &&& 31))) q1151 q117 q1593 q1150 hd_J17_newLength (by decide) (by decide) rfl (by simp [zcat_rf, zcat_i, zcat_j, zcat_f, zcat_d]) (fun z hz => by cases hz) dJ31_grow_2_27 (fun r3 => ?_)
  show zS _ 30 _ [.int r3] _
  refine zs_istore_n hE (i := 3) (q := 3) rfl (by decide) (rfl) (lv' := [(0, va_rf (some x0)), (1, .int x1), (2, .int x2)]) rfl dJ31_grow_2_30 ?_
  refine zs_aload_n hE 1 rfl rfl dJ31_grow_2_31 ?_
  refine zs_aload_n hE 1 rfl rfl dJ31_grow_2_32 ?_
  refine zs_getR hE (ci := 11) (k := 1) rfl (by decide) in_J31 (Or.inl q1531) (Or.inl rfl) dJ31_grow_2_33 (fun v4 => ?_)
  refine zs_iload_n hE 0 rfl rfl dJ31_grow_2_36 ?_
  refine zs_callS hE (As := [va_rf v4, .int r3]) (encA := encR) (met_J32_copyOf_2 K v4 r3) q1596 q134 q1594 q1595 hd_J32_copyOf_2 (by decide) (by decide) rfl (by simp [zcat_rf, zcat_i, zcat_j, zcat_f, zcat_d]) (fun z hz => by cases hz) dJ31_grow_2_37 (fun r5 => ?_)
  show zS _ 40 _ [va_rf r5, va_rf (some x0)] _
  refine zs_dup_x1 hE (zcat_rf _) (zcat_rf _) dJ31_grow_2_40 ?_
  refine zs_putR hE (ci := 11) (k := 1) rfl (by decide) in_J31 (Or.inl q1531) (Or.inl rfl) (Or.inl rfl) (fun h => nomatch h) (tyJ31_ok 1 (by decide)) (Or.inr ⟨_, rfl⟩) dJ31_grow_2_41 ?_
  exact zs_aret hE (Or.inr ⟨_, rfl⟩) dJ31_grow_2_44
theorem sm_J31_grow_2 {x : ZX (Option Nat)} {K : ZK} (hE : zE x K cJ31_grow_2 RJ31 "grow" 4 4 165 encR (Option.some (Jvm.ClassFile.FieldType.array (Jvm.ClassFile.FieldType.object "java/lang/Object"))) []) (this : Nat) (a1 : Int32) : zS x 0 [(0, va_rf (some this)), (1, .int a1)] [] (s_J31_grow_2 K this a1) := by
  unfold s_J31_grow_2
  refine zs_aload_n hE 0 rfl rfl dJ31_grow_2_0 ?_
  refine zs_getR hE (ci := 11) (k := 1) rfl (by decide) in_J31 (Or.inl q1531) (Or.inl rfl) dJ31_grow_2_1 (fun v1 => ?_)
  refine zs_lenK hE (t := 4) rfl dJ31_grow_2_4 (fun v2 => ?_)
  refine zs_istore_n hE (i := 2) (q := 2) rfl (by decide) (rfl) (lv' := [(0, va_rf (some this)), (1, .int a1)]) rfl dJ31_grow_2_5 ?_
  refine zs_iload_n hE 0 rfl rfl dJ31_grow_2_6 ?_
  refine zs_if_gt hE 20 (by decide) dJ31_grow_2_7 ?_ ?_
  · refine zs_sub [1, 2, 0] rfl ?_
    exact sm_J31_grow_2_J20 hE this a1 v2
  · refine zs_aload_n hE 1 rfl rfl dJ31_grow_2_10 ?_
    refine zs_getR hE (ci := 11) (k := 1) rfl (by decide) in_J31 (Or.inl q1531) (Or.inl rfl) dJ31_grow_2_11 (fun v6 => ?_)
    refine zs_gets hE (C := "java/util/ArrayList") (v := .ref (K.1 1)) (by simp [zST]) q1529 (Or.inl rfl) dJ31_grow_2_14 ?_
    show zS _ 17 _ (va_rf (some (K.1 1)) :: _) _
    refine zs_acmp_eq hE 45 (by decide) dJ31_grow_2_17 ?_ ?_
    · refine zs_aload_n hE 1 rfl rfl dJ31_grow_2_45 ?_
      refine zs_bipush hE (v := (10 : Int32)) (by decide) dJ31_grow_2_46 ?_
      refine zs_iload_n hE 2 rfl rfl dJ31_grow_2_48 ?_
      refine zs_callS hE (As := [.int (10 : Int32), .int a1]) (encA := encI) (met_J16_max K (10 : Int32) a1) q1154 q116 q1649 q1153 hd_J16_max (by decide) (by decide) rfl (by simp [zcat_rf, zcat_i, zcat_j, zcat_f, zcat_d]) (fun z hz => by cases hz) dJ31_grow_2_49 (fun r7 => ?_)
      show zS _ 52 _ [.int r7, va_rf (some this)] _
      refine zs_newR hE q1650 dJ31_grow_2_52 (fun q8 => ?_)
      refine zs_dup_x1 hE (zcat_rf _) (zcat_rf _) dJ31_grow_2_55 ?_
      refine zs_putR hE (ci := 11) (k := 1) rfl (by decide) in_J31 (Or.inl q1531) (Or.inl rfl) (Or.inl rfl) (fun h => nomatch h) (tyJ31_ok 1 (by decide)) (Or.inr ⟨_, rfl⟩) dJ31_grow_2_56 ?_
      exact zs_aret hE (Or.inr ⟨_, rfl⟩) dJ31_grow_2_59
    · refine zs_sub [1, 2, 0] rfl ?_
      exact sm_J31_grow_2_J20 hE this a1 v2
theorem hd_J31_grow_2 : (yJ31_grow_2).cls ≠ "java/lang/invoke/MethodHandle" ∧ (yJ31_grow_2).cls ≠ "java/lang/invoke/VarHandle" ∧ (parseMethodDescriptor (yJ31_grow_2).desc).map (fun d => d.parameters.length) = some 1 := by decide +kernel
theorem met_J31_grow_2 (K : ZK) (this : Nat) (a1 : Int32) : zMeth K yJ31_grow_2 (zws yJ31_grow_2 cJ31_grow_2 4 (Option.some (Jvm.ClassFile.FieldType.array (Jvm.ClassFile.FieldType.object "java/lang/Object")))) 4 165 [.ref this, .int a1] encR (s_J31_grow_2 K this a1) :=
  fun l G hl hK => zmet_of hl hK (by decide +kernel) rfl rfl (by simp [zsl_nil, zsl_rf, zsl_r, zsl_i, zsl_j, zsl_f, zsl_d]) (fun x hE => by simp only [zla_nil, zla_rf, zla_r, zla_i, zla_j, zla_f, zla_d, Nat.reduceAdd]; exact sm_J31_grow_2 hE this a1)
theorem sm_J31_grow {x : ZX (Option Nat)} {K : ZK} (hE : zE x K cJ31_grow RJ31 "grow" 1 5 188 encR (Option.some (Jvm.ClassFile.FieldType.array (Jvm.ClassFile.FieldType.object "java/lang/Object"))) []) (this : Nat) : zS x 0 [(0, va_rf (some this))] [] (s_J31_grow K this) := by
  unfold s_J31_grow
  refine zs_aload_n hE 0 rfl rfl dJ31_grow_0 ?_
  refine zs_aload_n hE 0 rfl rfl dJ31_grow_1 ?_
  refine zs_getI hE (ci := 11) (k := 2) rfl (by decide) in_J31 (Or.inl q1534) (Or.inl rfl) dJ31_grow_2 (fun v1 => ?_)
  refine zs_iconst hE (v := (1 : Int32)) (by decide) dJ31_grow_5 ?_
  refine zs_iadd hE dJ31_grow_6 ?_
  refine zs_callV hE (As := [.int (v1 + (1 : Int32))]) (encA := encR) (ci := 11) rfl (fun y0 => met_J31_grow_2 K y0 (v1 + (1 : Int32))) q1592 q133 q1589 q1591 (zq qs3) hd_J31_grow_2 (by decide) (by decide) rfl (by simp [zcat_rf, zcat_i, zcat_j, zcat_f, zcat_d]) (fun z hz => by cases hz) dJ31_grow_7 (fun r2 => ?_)
  show zS _ 10 _ [va_rf r2] _
  exact zs_aret hE (Or.inr ⟨_, rfl⟩) dJ31_grow_10
theorem hd_J31_grow : (yJ31_grow).cls ≠ "java/lang/invoke/MethodHandle" ∧ (yJ31_grow).cls ≠ "java/lang/invoke/VarHandle" ∧ (parseMethodDescriptor (yJ31_grow).desc).map (fun d => d.parameters.length) = some 0 := by decide +kernel
theorem met_J31_grow (K : ZK) (this : Nat) : zMeth K yJ31_grow (zws yJ31_grow cJ31_grow 1 (Option.some (Jvm.ClassFile.FieldType.array (Jvm.ClassFile.FieldType.object "java/lang/Object")))) 5 188 [.ref this] encR (s_J31_grow K this) :=
  fun l G hl hK => zmet_of hl hK (by decide +kernel) rfl rfl (by simp [zsl_nil, zsl_rf, zsl_r, zsl_i, zsl_j, zsl_f, zsl_d]) (fun x hE => by simp only [zla_nil, zla_rf, zla_r, zla_i, zla_j, zla_f, zla_d, Nat.reduceAdd]; exact sm_J31_grow hE this)
theorem sm_J31_add_2_J11 {x : ZX Unit} {K : ZK} (hE : zE x K cJ31_add_2 RJ31 "add" 4 6 208 encV none []) (x0 : Nat) (x1 : Option Nat) (x2 : Option Nat) (x3 : Int32) : zS x 11 [(0, va_rf (some x0)), (1, va_rf x1), (2, va_rf x2), (3, .int x3)] [] (s_J31_add_2_J11 K x0 x1 x2 x3) := by
  unfold s_J31_add_2_J11
  refine zs_aload_n hE 2 rfl rfl dJ31_add_2_11 ?_
  refine zs_iload_n hE 3 rfl rfl dJ31_add_2_12 ?_
  refine zs_aload_n hE 1 rfl rfl dJ31_add_2_13 ?_
  refine zs_astR hE dJ31_add_2_14 ?_
  refine zs_aload_n hE 0 rfl rfl dJ31_add_2_15 ?_
  refine zs_iload_n hE 3 rfl rfl dJ31_add_2_16 ?_
  refine zs_iconst hE (v := (1 : Int32)) (by decide) dJ31_add_2_17 ?_
  refine zs_iadd hE dJ31_add_2_18 ?_
  refine zs_putI hE (ci := 11) (k := 2) rfl (by decide) in_J31 (Or.inl q1534) (Or.inl rfl) (Or.inl rfl) (fun h => nomatch h) rfl dJ31_add_2_19 ?_
  exact zs_vret hE dJ31_add_2_22
theorem sm_J31_add_2 {x : ZX Unit} {K : ZK} (hE : zE x K cJ31_add_2 RJ31 "add" 4 6 208 encV none []) (this : Nat) (a1 : Option Nat) (a2 : Option Nat) (a3 : Int32) : zS x 0 [(0, va_rf (some this)), (1, va_rf a1), (2, va_rf a2), (3, .int a3)] [] (s_J31_add_2 K this a1 a2 a3) := by
  unfold s_J31_add_2
  refine zs_iload_n hE 3 rfl rfl dJ31_add_2_0 ?_
  refine zs_aload_n hE 2 rfl rfl dJ31_add_2_1 ?_
  refine zs_lenK hE (t := 4) rfl dJ31_add_2_2 (fun v1 => ?_)
  refine zs_icmp_ne hE 11 (by decide) dJ31_add_2_3 ?_ ?_
  · refine zs_aload_n hE 0 rfl rfl dJ31_add_2_6 ?_
    refine zs_callV hE (As := []) (encA := encR) (ci := 11) rfl (fun y0 => met_J31_grow K y0) q1588 q133 q1585 q1587 (zq qs2) hd_J31_grow (by decide) (by decide) rfl (by simp [zcat_rf, zcat_i, zcat_j, zcat_f, zcat_d]) (fun z hz => by cases hz) dJ31_add_2_7 (fun r2 => ?_)
    show zS _ 10 _ [va_rf r2] _
    refine zs_astore_n hE (i := 2) (q := 2) rfl (by decide) (zcat_rf a1) (lv' := [(0, va_rf (some this)), (1, va_rf a1), (3, .int a3)]) rfl dJ31_add_2_10 ?_
    refine zs_sub [1, 2, 0, 3] rfl ?_
    exact sm_J31_add_2_J11 hE this a1 r2 a3
  · exact sm_J31_add_2_J11 hE this a1 a2 a3
theorem hd_J31_add_2 : (yJ31_add_2).cls ≠ "java/lang/invoke/MethodHandle" ∧ (yJ31_add_2).cls ≠ "java/lang/invoke/VarHandle" ∧ (parseMethodDescriptor (yJ31_add_2).desc).map (fun d => d.parameters.length) = some 3 := by decide +kernel
theorem met_J31_add_2 (K : ZK) (this : Nat) (a1 : Option Nat) (a2 : Option Nat) (a3 : Int32) : zMeth K yJ31_add_2 (zws yJ31_add_2 cJ31_add_2 4 none) 6 208 [.ref this, va_rf a1, va_rf a2, .int a3] encV (s_J31_add_2 K this a1 a2 a3) :=
  fun l G hl hK => zmet_of hl hK (by decide +kernel) rfl rfl (by simp [zsl_nil, zsl_rf, zsl_r, zsl_i, zsl_j, zsl_f, zsl_d]) (fun x hE => by simp only [zla_nil, zla_rf, zla_r, zla_i, zla_j, zla_f, zla_d, Nat.reduceAdd]; exact sm_J31_add_2 hE this a1 a2 a3)
theorem sm_J31_add {x : ZX Int32} {K : ZK} (hE : zE x K cJ31_add RJ31 "add" 2 7 231 encI (Option.some Jvm.ClassFile.FieldType.boolean) []) (this : Nat) (a1 : Option Nat) : zS x 0 [(0, va_rf (some this)), (1, va_rf a1)] [] (s_J31_add K this a1) := by
  unfold s_J31_add
  refine zs_aload_n hE 0 rfl rfl dJ31_add_0 ?_
  refine zs_dup hE (zcat_rf _) dJ31_add_1 ?_
  refine zs_getI hE (ci := 11) (k := 0) rfl (by decide) in_J31 (Or.inl q1538) (Or.inr q1537) dJ31_add_2 (fun v1 => ?_)
  refine zs_iconst hE (v := (1 : Int32)) (by decide) dJ31_add_5 ?_
  refine zs_iadd hE dJ31_add_6 ?_
  refine zs_putI hE (ci := 11) (k := 0) rfl (by decide) in_J31 (Or.inl q1538) (Or.inr q1537) (Or.inl rfl) (fun h => nomatch h) rfl dJ31_add_7 ?_
  refine zs_aload_n hE 0 rfl rfl dJ31_add_10 ?_
  refine zs_aload_n hE 1 rfl rfl dJ31_add_11 ?_
  refine zs_aload_n hE 0 rfl rfl dJ31_add_12 ?_
  refine zs_getR hE (ci := 11) (k := 1) rfl (by decide) in_J31 (Or.inl q1531) (Or.inl rfl) dJ31_add_13 (fun v2 => ?_)
  refine zs_aload_n hE 0 rfl rfl dJ31_add_16 ?_
  refine zs_getI hE (ci := 11) (k := 2) rfl (by decide) in_J31 (Or.inl q1534) (Or.inl rfl) dJ31_add_17 (fun v3 => ?_)
  refine zs_callV hE (As := [va_rf a1, va_rf v2, .int v3]) (encA := encV) (ci := 11) rfl (fun y0 => met_J31_add_2 K y0 a1 v2 v3) q1584 q133 q1581 q1583 (zq qs1) hd_J31_add_2 (by decide) (by decide) rfl (by simp [zcat_rf, zcat_i, zcat_j, zcat_f, zcat_d]) (fun z hz => by cases hz) dJ31_add_20 (fun _ => ?_)
  show zS _ 23 _ [] _
  refine zs_iconst hE (v := (1 : Int32)) (by decide) dJ31_add_23 ?_
  exact zs_zret hE rfl dJ31_add_24
theorem hd_J31_add : (yJ31_add).cls ≠ "java/lang/invoke/MethodHandle" ∧ (yJ31_add).cls ≠ "java/lang/invoke/VarHandle" ∧ (parseMethodDescriptor (yJ31_add).desc).map (fun d => d.parameters.length) = some 1 := by decide +kernel
theorem met_J31_add (K : ZK) (this : Nat) (a1 : Option Nat) : zMeth K yJ31_add (zws yJ31_add cJ31_add 2 (Option.some Jvm.ClassFile.FieldType.boolean)) 7 231 [.ref this, va_rf a1] encI (s_J31_add K this a1) :=
  fun l G hl hK => zmet_of hl hK (by decide +kernel) rfl rfl (by simp [zsl_nil, zsl_rf, zsl_r, zsl_i, zsl_j, zsl_f, zsl_d]) (fun x hE => by simp only [zla_nil, zla_rf, zla_r, zla_i, zla_j, zla_f, zla_d, Nat.reduceAdd]; exact sm_J31_add hE this a1)
theorem sm_X5_copy_B20 {x : ZX (Option Nat)} {K : ZK} (hE : zE x K cX5_copy RX5 "copy" 4 8 252 encR (Option.some (Jvm.ClassFile.FieldType.object "TokenRing$Station")) []) (x0 : Nat) (x1 : Nat) (x2 : Option Nat) (self20 : Unit → ZP (Option Nat)) (hs20 : ∀ v : Unit, zS x 20 [(0, va_rf (some x0)), (1, va_rf (some x1)), (2, va_rf x2)] [] (self20 v)) : zS x 20 [(0, va_rf (some x0)), (1, va_rf (some x1)), (2, va_rf x2)] [] (s_X5_copy_B20 K x0 x1 x2 self20) := by
  unfold s_X5_copy_B20
  refine zs_aload_n hE 2 rfl rfl dX5_copy_20 ?_
  refine zs_callF hE (xx := ⟨"java/util/Iterator", "hasNext", "()Z"⟩) (As := []) (encA := encI) (ci := 5) rfl (fun y0 => met_J23_hasNext K y0) q869 q124 q1573 (List.mem_of_getElem? (i := 3) rfl) q867 q865 hdx_h2 (by decide) (by decide) rfl (by simp [zcat_rf, zcat_i, zcat_j, zcat_f, zcat_d]) (fun z hz => by cases hz) dX5_copy_21 (fun r5 => ?_)
  show zS _ 26 _ [.int r5] _
  refine zs_if_eq hE 51 (by decide) dX5_copy_26 ?_ ?_
  · refine zs_aload_n hE 1 rfl rfl dX5_copy_51 ?_
    refine zs_aload_n hE 0 rfl rfl dX5_copy_52 ?_
    refine zs_getI hE (ci := 37) (k := 2) rfl (by decide) in_X5 (Or.inl q1556) (Or.inl rfl) dX5_copy_53 (fun v6 => ?_)
    refine zs_putI hE (ci := 37) (k := 2) rfl (by decide) in_X5 (Or.inl q1556) (Or.inl rfl) (Or.inl rfl) (fun h => nomatch h) rfl dX5_copy_56 ?_
    refine zs_aload_n hE 1 rfl rfl dX5_copy_59 ?_
    refine zs_aload_n hE 0 rfl rfl dX5_copy_60 ?_
    refine zs_getI hE (ci := 37) (k := 3) rfl (by decide) in_X5 (Or.inl q1559) (Or.inl rfl) dX5_copy_61 (fun v7 => ?_)
    refine zs_putI hE (ci := 37) (k := 3) rfl (by decide) in_X5 (Or.inl q1559) (Or.inl rfl) (Or.inl rfl) (fun h => nomatch h) rfl dX5_copy_64 ?_
    refine zs_aload_n hE 1 rfl rfl dX5_copy_67 ?_
    exact zs_aret hE (Or.inl ⟨_, rfl⟩) dX5_copy_68
  · refine zs_aload_n hE 2 rfl rfl dX5_copy_29 ?_
    refine zs_callF hE (xx := ⟨"java/util/Iterator", "next", "()Ljava/lang/Object;"⟩) (As := []) (encA := encR) (ci := 5) rfl (fun y0 => met_J23_next K y0) q1045 q124 q1575 (List.mem_of_getElem? (i := 4) rfl) q1043 q1041 hdx_h4 (by decide) (by decide) rfl (by simp [zcat_rf, zcat_i, zcat_j, zcat_f, zcat_d]) (fun z hz => by cases hz) dX5_copy_30 (fun r8 => ?_)
    show zS _ 35 _ [va_rf r8] _
    refine zs_cast hE q1576 (zc1 rfl (Or.inl rfl)) dX5_copy_35 ?_
    refine zs_astore_n hE (i := 3) (q := 3) rfl (by decide) (zcat_rf x2) (lv' := [(0, va_rf (some x0)), (1, va_rf (some x1)), (2, va_rf x2)]) rfl dX5_copy_38 ?_
    refine zs_aload_n hE 2 rfl rfl dX5_copy_39 ?_
    refine zs_getR hE (ci := 37) (k := 1) rfl (by decide) in_X5 (Or.inl q1551) (Or.inl rfl) dX5_copy_40 (fun v9 => ?_)
    refine zs_aload_n hE 0 rfl rfl dX5_copy_43 ?_
    refine zs_callV hE (As := [va_rf r8]) (encA := encI) (ci := 11) rfl (fun y0 => met_J31_add K y0 r8) q1580 q133 q1577 q1578 (zq q1579) hd_J31_add (by decide) (by decide) rfl (by simp [zcat_rf, zcat_i, zcat_j, zcat_f, zcat_d]) (fun z hz => by cases hz) dX5_copy_44 (fun r10 => ?_)
    show zS _ 47 _ [.int r10] _
    refine zs_pop hE (rfl) dX5_copy_47 ?_
    refine zs_goto hE 20 (by decide) dX5_copy_48 ?_
    refine zs_sub [1, 2, 3] rfl ?_
    exact hs20 ()
theorem sm_X5_copy_L20 {x : ZX (Option Nat)} {K : ZK} (hE : zE x K cX5_copy RX5 "copy" 4 8 252 encR (Option.some (Jvm.ClassFile.FieldType.object "TokenRing$Station")) []) (x0 : Nat) (x1 : Nat) (x2 : Option Nat) (v : Unit) : zS x 20 [(0, va_rf (some x0)), (1, va_rf (some x1)), (2, va_rf x2)] [] (s_X5_copy_L20 K x0 x1 x2 v) := by
  unfold s_X5_copy_L20
  exact zs_loop (lvf := fun v => [(0, va_rf (some x0)), (1, va_rf (some x1)), (2, va_rf x2)]) (fun self20 hs20 v => sm_X5_copy_B20 hE x0 x1 x2 self20 hs20) v
theorem sm_X5_copy {x : ZX (Option Nat)} {K : ZK} (hE : zE x K cX5_copy RX5 "copy" 4 8 252 encR (Option.some (Jvm.ClassFile.FieldType.object "TokenRing$Station")) []) (this : Nat) : zS x 0 [(0, va_rf (some this))] [] (s_X5_copy K this) := by
  unfold s_X5_copy
  refine zs_new hE (ci := 37) (fs := [.int 0, .null, .int 0, .int 0]) rfl in_X5 tyX5 tyX5_ok q1514 q1515 q131 (fun j hj => by rcases (show j = 0 ∨ j = 1 ∨ j = 2 ∨ j = 3 by omega) with rfl | rfl | rfl | rfl <;> rfl) dX5_copy_0 (fun q1 => ?_)
  refine zs_dup hE (zcat_rf _) dX5_copy_3 ?_
  refine zs_aload_n hE 0 rfl rfl dX5_copy_4 ?_
  refine zs_getI hE (ci := 37) (k := 0) rfl (by decide) in_X5 (Or.inl q1546) (Or.inl rfl) dX5_copy_5 (fun v2 => ?_)
  refine zs_callI hE (As := [.int v2]) (encA := encV) (met_X5_init K q1 v2) q1518 q131 q1516 q1517 rfl hd_X5_init (by decide) (by decide) rfl (by simp [zcat_rf, zcat_i, zcat_j, zcat_f, zcat_d]) (fun z hz => by cases hz) dX5_copy_8 (fun _ => ?_)
  show zS _ 11 _ [va_rf (some q1)] _
  refine zs_astore_n hE (i := 1) (q := 1) rfl (by decide) (zcat_rf (some this)) (lv' := [(0, va_rf (some this))]) rfl dX5_copy_11 ?_
  refine zs_aload_n hE 1 rfl rfl dX5_copy_12 ?_
  refine zs_getR hE (ci := 37) (k := 1) rfl (by decide) in_X5 (Or.inl q1551) (Or.inl rfl) dX5_copy_13 (fun v3 => ?_)
  refine zs_callV hE (As := []) (encA := encR) (ci := 11) rfl (fun y0 => met_J31_iterator K y0) q479 q133 q1571 q477 (zq q3299) hd_J31_iterator (by decide) (by decide) rfl (by simp [zcat_rf, zcat_i, zcat_j, zcat_f, zcat_d]) (fun z hz => by cases hz) dX5_copy_16 (fun r4 => ?_)
  show zS _ 19 _ [va_rf r4] _
  refine zs_astore_n hE (i := 2) (q := 2) rfl (by decide) (zcat_rf (some q1)) (lv' := [(1, va_rf (some q1)), (0, va_rf (some this))]) rfl dX5_copy_19 ?_
  refine zs_sub [2, 1, 0] rfl ?_
  exact sm_X5_copy_L20 hE this q1 r4 ()
theorem hd_X5_copy : (yX5_copy).cls ≠ "java/lang/invoke/MethodHandle" ∧ (yX5_copy).cls ≠ "java/lang/invoke/VarHandle" ∧ (parseMethodDescriptor (yX5_copy).desc).map (fun d => d.parameters.length) = some 0 := by decide +kernel
theorem met_X5_copy (K : ZK) (this : Nat) : zMeth K yX5_copy (zws yX5_copy cX5_copy 4 (Option.some (Jvm.ClassFile.FieldType.object "TokenRing$Station"))) 8 252 [.ref this] encR (s_X5_copy K this) :=
  fun l G hl hK => zmet_of hl hK (by decide +kernel) rfl rfl (by simp [zsl_nil, zsl_rf, zsl_r, zsl_i, zsl_j, zsl_f, zsl_d]) (fun x hE => by simp only [zla_nil, zla_rf, zla_r, zla_i, zla_j, zla_f, zla_d, Nat.reduceAdd]; exact sm_X5_copy hE this)
theorem sm_J1_compare {x : ZX Int32} {K : ZK} (hE : zE x K cJ1_compare RJ1 "compare" 3 4 163 encI (Option.some Jvm.ClassFile.FieldType.int) []) (this : Nat) (a1 : Option Nat) (a2 : Option Nat) : zS x 0 [(0, va_rf (some this)), (1, va_rf a1), (2, va_rf a2)] [] (s_J1_compare K this a1 a2) := by
  unfold s_J1_compare
  refine zs_aload_n hE 0 rfl rfl dJ1_compare_0 ?_
  refine zs_getR hE (ci := 0) (k := 2) rfl (by decide) in_J1 (Or.inl q186) (Or.inl rfl) dJ1_compare_1 (fun v1 => ?_)
  refine zs_ifnonnull hE 20 (by decide) dJ1_compare_4 ?_ ?_
  · refine zs_aload_n hE 1 rfl rfl dJ1_compare_7 ?_
    refine zs_castK hE q525 (zc1 rfl (Or.inr (zn q530 rfl))) dJ1_compare_8 ?_
    refine zs_aload_n hE 2 rfl rfl dJ1_compare_11 ?_
    refine zs_callFK hE (xx := ⟨"java/lang/Comparable", "compareTo", "(Ljava/lang/Object;)I"⟩) (As := [va_rf a2]) (encA := encI) (ci := 2) rfl (fun y0 => met_J13_compareTo K y0 a2) q535 q112 q527 (List.mem_of_getElem? (i := 9) rfl) q533 q531 hdx_h0 (by decide) (by decide) rfl (by simp [zcat_rf, zcat_i, zcat_j, zcat_f, zcat_d]) (fun z hz => by cases hz) dJ1_compare_12 (fun r2 => ?_)
    show zS _ 17 _ [.int r2] _
    refine zs_goto hE 31 (by decide) dJ1_compare_17 ?_
    exact zs_iret hE dJ1_compare_31
  · refine zs_aload_n hE 0 rfl rfl dJ1_compare_20 ?_
    refine zs_getR hE (ci := 0) (k := 2) rfl (by decide) in_J1 (Or.inl q186) (Or.inl rfl) dJ1_compare_21 (fun v3 => ?_)
    refine zs_aload_n hE 1 rfl rfl dJ1_compare_24 ?_
    refine zs_aload_n hE 2 rfl rfl dJ1_compare_25 ?_
    exact zs_bad
theorem hd_J1_compare : (yJ1_compare).cls ≠ "java/lang/invoke/MethodHandle" ∧ (yJ1_compare).cls ≠ "java/lang/invoke/VarHandle" ∧ (parseMethodDescriptor (yJ1_compare).desc).map (fun d => d.parameters.length) = some 2 := by decide +kernel
theorem met_J1_compare (K : ZK) (this : Nat) (a1 : Option Nat) (a2 : Option Nat) : zMeth K yJ1_compare (zws yJ1_compare cJ1_compare 3 (Option.some Jvm.ClassFile.FieldType.int)) 4 163 [.ref this, va_rf a1, va_rf a2] encI (s_J1_compare K this a1 a2) :=
  fun l G hl hK => zmet_of hl hK (by decide +kernel) rfl rfl (by simp [zsl_nil, zsl_rf, zsl_r, zsl_i, zsl_j, zsl_f, zsl_d]) (fun x hE => by simp only [zla_nil, zla_rf, zla_r, zla_i, zla_j, zla_f, zla_d, Nat.reduceAdd]; exact sm_J1_compare hE this a1 a2)
theorem sm_J33_init {x : ZX Unit} {K : ZK} (hE : zE x K cJ33_init RJ33 "<init>" 4 1 100 encV none []) (this : Nat) (a1 : Option Nat) (a2 : Option Nat) (a3 : Option Nat) : zS x 0 [(0, va_rf (some this)), (1, va_rf a1), (2, va_rf a2), (3, va_rf a3)] [] (s_J33_init K this a1 a2 a3) := by
  unfold s_J33_init
  refine zs_aload_n hE 0 rfl rfl dJ33_init_0 ?_
  refine zs_objInit hE q1668 q169 q170 (by decide) (by first | decide | simp [zcat_rf, zcat_i, zcat_j, zcat_f, zcat_d]) dJ33_init_1 ?_
  refine zs_aload_n hE 0 rfl rfl dJ33_init_4 ?_
  refine zs_iconst hE (v := (1 : Int32)) (by decide) dJ33_init_5 ?_
  refine zs_putT hE (ci := 12) (k := 5) rfl (by decide) in_J33 (Or.inl q1680) (Or.inl rfl) (Or.inl rfl) (fun h => nomatch h) rfl dJ33_init_6 ?_
  refine zs_aload_n hE 0 rfl rfl dJ33_init_9 ?_
  refine zs_aload_n hE 1 rfl rfl dJ33_init_10 ?_
  refine zs_putR hE (ci := 12) (k := 0) rfl (by decide) in_J33 (Or.inl q1669) (Or.inl rfl) (Or.inl rfl) (fun h => nomatch h) (tyJ33_ok 0 (by decide)) (Or.inl ⟨_, rfl⟩) dJ33_init_11 ?_
  refine zs_aload_n hE 0 rfl rfl dJ33_init_14 ?_
  refine zs_aload_n hE 2 rfl rfl dJ33_init_15 ?_
  refine zs_putR hE (ci := 12) (k := 1) rfl (by decide) in_J33 (Or.inl q1673) (Or.inl rfl) (Or.inl rfl) (fun h => nomatch h) (tyJ33_ok 1 (by decide)) (Or.inl ⟨_, rfl⟩) dJ33_init_16 ?_
  refine zs_aload_n hE 0 rfl rfl dJ33_init_19 ?_
  refine zs_aload_n hE 3 rfl rfl dJ33_init_20 ?_
  refine zs_putR hE (ci := 12) (k := 4) rfl (by decide) in_J33 (Or.inl q1678) (Or.inl rfl) (Or.inl rfl) (fun h => nomatch h) (tyJ33_ok 4 (by decide)) (Or.inl ⟨_, rfl⟩) dJ33_init_21 ?_
  exact zs_vret hE dJ33_init_24
theorem hd_J33_init : (yJ33_init).cls ≠ "java/lang/invoke/MethodHandle" ∧ (yJ33_init).cls ≠ "java/lang/invoke/VarHandle" ∧ (parseMethodDescriptor (yJ33_init).desc).map (fun d => d.parameters.length) = some 3 := by decide +kernel
theorem met_J33_init (K : ZK) (this : Nat) (a1 : Option Nat) (a2 : Option Nat) (a3 : Option Nat) : zMeth K yJ33_init (zws yJ33_init cJ33_init 4 none) 1 100 [.ref this, va_rf a1, va_rf a2, va_rf a3] encV (s_J33_init K this a1 a2 a3) :=
  fun l G hl hK => zmet_of hl hK (by decide +kernel) rfl rfl (by simp [zsl_nil, zsl_rf, zsl_r, zsl_i, zsl_j, zsl_f, zsl_d]) (fun x hE => by simp only [zla_nil, zla_rf, zla_r, zla_i, zla_j, zla_f, zla_d, Nat.reduceAdd]; exact sm_J33_init hE this a1 a2 a3)
theorem sm_J1_addEntryToEmptyMap {x : ZX Unit} {K : ZK} (hE : zE x K cJ1_addEntryToEmptyMap RJ1 "addEntryToEmptyMap" 3 5 185 encV none []) (this : Nat) (a1 : Option Nat) (a2 : Option Nat) : zS x 0 [(0, va_rf (some this)), (1, va_rf a1), (2, va_rf a2)] [] (s_J1_addEntryToEmptyMap K this a1 a2) := by
  unfold s_J1_addEntryToEmptyMap
  refine zs_aload_n hE 0 rfl rfl dJ1_addEntryToEmptyMap_0 ?_
  refine zs_aload_n hE 1 rfl rfl dJ1_addEntryToEmptyMap_1 ?_
  refine zs_aload_n hE 1 rfl rfl dJ1_addEntryToEmptyMap_2 ?_
  refine zs_callV hE (As := [va_rf a1, va_rf a1]) (encA := encI) (ci := 0) rfl (fun y0 => met_J1_compare K y0 a1 a1) q524 q98 q521 q522 (zq q523) hd_J1_compare (by decide) (by decide) rfl (by simp [zcat_rf, zcat_i, zcat_j, zcat_f, zcat_d]) (fun z hz => by cases hz) dJ1_addEntryToEmptyMap_3 (fun r1 => ?_)
  show zS _ 6 _ [.int r1] _
  refine zs_pop hE (rfl) dJ1_addEntryToEmptyMap_6 ?_
  refine zs_aload_n hE 0 rfl rfl dJ1_addEntryToEmptyMap_7 ?_
  refine zs_new hE (ci := 12) (fs := [.null, .null, .null, .null, .null, .int 0]) rfl in_J33 tyJ33 tyJ33_ok q1663 q1664 q136 (fun j hj => by rcases (show j = 0 ∨ j = 1 ∨ j = 2 ∨ j = 3 ∨ j = 4 ∨ j = 5 by omega) with rfl | rfl | rfl | rfl | rfl | rfl <;> rfl) dJ1_addEntryToEmptyMap_8 (fun q2 => ?_)
  refine zs_dup hE (zcat_rf _) dJ1_addEntryToEmptyMap_11 ?_
  refine zs_aload_n hE 1 rfl rfl dJ1_addEntryToEmptyMap_12 ?_
  refine zs_aload_n hE 2 rfl rfl dJ1_addEntryToEmptyMap_13 ?_
  refine zs_null hE dJ1_addEntryToEmptyMap_14 ?_
  refine zs_callI hE (As := [va_rf a1, va_rf a2, va_rf none]) (encA := encV) (met_J33_init K q2 a1 a2 none) q1667 q136 q1665 q1666 rfl hd_J33_init (by decide) (by decide) rfl (by simp [zcat_rf, zcat_i, zcat_j, zcat_f, zcat_d]) (fun z hz => by cases hz) dJ1_addEntryToEmptyMap_15 (fun _ => ?_)
  show zS _ 18 _ [va_rf (some q2), va_rf (some this)] _
  refine zs_putR hE (ci := 0) (k := 3) rfl (by decide) in_J1 (Or.inl q187) (Or.inl rfl) (Or.inl rfl) (fun h => nomatch h) (tyJ1_ok 3 (by decide)) (Or.inl ⟨_, rfl⟩) dJ1_addEntryToEmptyMap_18 ?_
  refine zs_aload_n hE 0 rfl rfl dJ1_addEntryToEmptyMap_21 ?_
  refine zs_iconst hE (v := (1 : Int32)) (by decide) dJ1_addEntryToEmptyMap_22 ?_
  refine zs_putI hE (ci := 0) (k := 4) rfl (by decide) in_J1 (Or.inl q188) (Or.inl rfl) (Or.inl rfl) (fun h => nomatch h) rfl dJ1_addEntryToEmptyMap_23 ?_
  refine zs_aload_n hE 0 rfl rfl dJ1_addEntryToEmptyMap_26 ?_
  refine zs_dup hE (zcat_rf _) dJ1_addEntryToEmptyMap_27 ?_
  refine zs_getI hE (ci := 0) (k := 5) rfl (by decide) in_J1 (Or.inl q189) (Or.inl rfl) dJ1_addEntryToEmptyMap_28 (fun v3 => ?_)
  refine zs_iconst hE (v := (1 : Int32)) (by decide) dJ1_addEntryToEmptyMap_31 ?_
  refine zs_iadd hE dJ1_addEntryToEmptyMap_32 ?_
  refine zs_putI hE (ci := 0) (k := 5) rfl (by decide) in_J1 (Or.inl q189) (Or.inl rfl) (Or.inl rfl) (fun h => nomatch h) rfl dJ1_addEntryToEmptyMap_33 ?_
  exact zs_vret hE dJ1_addEntryToEmptyMap_36
theorem hd_J1_addEntryToEmptyMap : (yJ1_addEntryToEmptyMap).cls ≠ "java/lang/invoke/MethodHandle" ∧ (yJ1_addEntryToEmptyMap).cls ≠ "java/lang/invoke/VarHandle" ∧ (parseMethodDescriptor (yJ1_addEntryToEmptyMap).desc).map (fun d => d.parameters.length) = some 2 := by decide +kernel
theorem met_J1_addEntryToEmptyMap (K : ZK) (this : Nat) (a1 : Option Nat) (a2 : Option Nat) : zMeth K yJ1_addEntryToEmptyMap (zws yJ1_addEntryToEmptyMap cJ1_addEntryToEmptyMap 3 none) 5 185 [.ref this, va_rf a1, va_rf a2] encV (s_J1_addEntryToEmptyMap K this a1 a2) :=
  fun l G hl hK => zmet_of hl hK (by decide +kernel) rfl rfl (by simp [zsl_nil, zsl_rf, zsl_r, zsl_i, zsl_j, zsl_f, zsl_d]) (fun x hE => by simp only [zla_nil, zla_rf, zla_r, zla_i, zla_j, zla_f, zla_d, Nat.reduceAdd]; exact sm_J1_addEntryToEmptyMap hE this a1 a2)
theorem sm_J1_parentOf {x : ZX (Option Nat)} {K : ZK} (hE : zE x K cJ1_parentOf RJ1 "parentOf" 1 1 100 encR (Option.some (Jvm.ClassFile.FieldType.object "java/util/TreeMap$Entry")) []) (a1 : Option Nat) : zS x 0 [(0, va_rf a1)] [] (s_J1_parentOf K a1) := by
  unfold s_J1_parentOf
  refine zs_aload_n hE 0 rfl rfl dJ1_parentOf_0 ?_
  refine zs_ifnonnull hE 8 (by decide) dJ1_parentOf_1 ?_ ?_
  · refine zs_null hE dJ1_parentOf_4 ?_
    refine zs_goto hE 12 (by decide) dJ1_parentOf_5 ?_
    exact zs_aret hE (Or.inl ⟨_, rfl⟩) dJ1_parentOf_12
  · refine zs_aload_n hE 0 rfl rfl dJ1_parentOf_8 ?_
    refine zs_getR hE (ci := 12) (k := 4) rfl (by decide) in_J33 (Or.inl q1679) (Or.inl rfl) dJ1_parentOf_9 (fun v1 => ?_)
    exact zs_aret hE (Or.inl ⟨_, rfl⟩) dJ1_parentOf_12
theorem hd_J1_parentOf : (yJ1_parentOf).cls ≠ "java/lang/invoke/MethodHandle" ∧ (yJ1_parentOf).cls ≠ "java/lang/invoke/VarHandle" ∧ (parseMethodDescriptor (yJ1_parentOf).desc).map (fun d => d.parameters.length) = some 1 := by decide +kernel
theorem met_J1_parentOf (K : ZK) (a1 : Option Nat) : zMeth K yJ1_parentOf (zws yJ1_parentOf cJ1_parentOf 1 (Option.some (Jvm.ClassFile.FieldType.object "java/util/TreeMap$Entry"))) 1 100 [va_rf a1] encR (s_J1_parentOf K a1) :=
  fun l G hl hK => zmet_of hl hK (by decide +kernel) rfl rfl (by simp [zsl_nil, zsl_rf, zsl_r, zsl_i, zsl_j, zsl_f, zsl_d]) (fun x hE => by simp only [zla_nil, zla_rf, zla_r, zla_i, zla_j, zla_f, zla_d, Nat.reduceAdd]; exact sm_J1_parentOf hE a1)
theorem sm_J1_leftOf {x : ZX (Option Nat)} {K : ZK} (hE : zE x K cJ1_leftOf RJ1 "leftOf" 1 1 100 encR (Option.some (Jvm.ClassFile.FieldType.object "java/util/TreeMap$Entry")) []) (a1 : Option Nat) : zS x 0 [(0, va_rf a1)] [] (s_J1_leftOf K a1) := by
  unfold s_J1_leftOf
  refine zs_aload_n hE 0 rfl rfl dJ1_leftOf_0 ?_
  refine zs_ifnonnull hE 8 (by decide) dJ1_leftOf_1 ?_ ?_
  · refine zs_null hE dJ1_leftOf_4 ?_
    refine zs_goto hE 12 (by decide) dJ1_leftOf_5 ?_
    exact zs_aret hE (Or.inl ⟨_, rfl⟩) dJ1_leftOf_12
  · refine zs_aload_n hE 0 rfl rfl dJ1_leftOf_8 ?_
    refine zs_getR hE (ci := 12) (k := 2) rfl (by decide) in_J33 (Or.inl q1676) (Or.inl rfl) dJ1_leftOf_9 (fun v1 => ?_)
    exact zs_aret hE (Or.inl ⟨_, rfl⟩) dJ1_leftOf_12
theorem hd_J1_leftOf : (yJ1_leftOf).cls ≠ "java/lang/invoke/MethodHandle" ∧ (yJ1_leftOf).cls ≠ "java/lang/invoke/VarHandle" ∧ (parseMethodDescriptor (yJ1_leftOf).desc).map (fun d => d.parameters.length) = some 1 := by decide +kernel
theorem met_J1_leftOf (K : ZK) (a1 : Option Nat) : zMeth K yJ1_leftOf (zws yJ1_leftOf cJ1_leftOf 1 (Option.some (Jvm.ClassFile.FieldType.object "java/util/TreeMap$Entry"))) 1 100 [va_rf a1] encR (s_J1_leftOf K a1) :=
  fun l G hl hK => zmet_of hl hK (by decide +kernel) rfl rfl (by simp [zsl_nil, zsl_rf, zsl_r, zsl_i, zsl_j, zsl_f, zsl_d]) (fun x hE => by simp only [zla_nil, zla_rf, zla_r, zla_i, zla_j, zla_f, zla_d, Nat.reduceAdd]; exact sm_J1_leftOf hE a1)
theorem sm_J1_rightOf {x : ZX (Option Nat)} {K : ZK} (hE : zE x K cJ1_rightOf RJ1 "rightOf" 1 1 100 encR (Option.some (Jvm.ClassFile.FieldType.object "java/util/TreeMap$Entry")) []) (a1 : Option Nat) : zS x 0 [(0, va_rf a1)] [] (s_J1_rightOf K a1) := by
  unfold s_J1_rightOf
  refine zs_aload_n hE 0 rfl rfl dJ1_rightOf_0 ?_
  refine zs_ifnonnull hE 8 (by decide) dJ1_rightOf_1 ?_ ?_
  · refine zs_null hE dJ1_rightOf_4 ?_
    refine zs_goto hE 12 (by decide) dJ1_rightOf_5 ?_
    exact zs_aret hE (Or.inl ⟨_, rfl⟩) dJ1_rightOf_12
  · refine zs_aload_n hE 0 rfl rfl dJ1_rightOf_8 ?_
    refine zs_getR hE (ci := 12) (k := 3) rfl (by decide) in_J33 (Or.inl q1677) (Or.inl rfl) dJ1_rightOf_9 (fun v1 => ?_)
    exact zs_aret hE (Or.inl ⟨_, rfl⟩) dJ1_rightOf_12
theorem hd_J1_rightOf : (yJ1_rightOf).cls ≠ "java/lang/invoke/MethodHandle" ∧ (yJ1_rightOf).cls ≠ "java/lang/invoke/VarHandle" ∧ (parseMethodDescriptor (yJ1_rightOf).desc).map (fun d => d.parameters.length) = some 1 := by decide +kernel
theorem met_J1_rightOf (K : ZK) (a1 : Option Nat) : zMeth K yJ1_rightOf (zws yJ1_rightOf cJ1_rightOf 1 (Option.some (Jvm.ClassFile.FieldType.object "java/util/TreeMap$Entry"))) 1 100 [va_rf a1] encR (s_J1_rightOf K a1) :=
  fun l G hl hK => zmet_of hl hK (by decide +kernel) rfl rfl (by simp [zsl_nil, zsl_rf, zsl_r, zsl_i, zsl_j, zsl_f, zsl_d]) (fun x hE => by simp only [zla_nil, zla_rf, zla_r, zla_i, zla_j, zla_f, zla_d, Nat.reduceAdd]; exact sm_J1_rightOf hE a1)
theorem sm_J1_colorOf {x : ZX Int32} {K : ZK} (hE : zE x K cJ1_colorOf RJ1 "colorOf" 1 1 100 encI (Option.some Jvm.ClassFile.FieldType.boolean) []) (a1 : Option Nat) : zS x 0 [(0, va_rf a1)] [] (s_J1_colorOf K a1) := by
  unfold s_J1_colorOf
  refine zs_aload_n hE 0 rfl rfl dJ1_colorOf_0 ?_
  refine zs_ifnonnull hE 8 (by decide) dJ1_colorOf_1 ?_ ?_
  · refine zs_iconst hE (v := (1 : Int32)) (by decide) dJ1_colorOf_4 ?_
    refine zs_goto hE 12 (by decide) dJ1_colorOf_5 ?_
    exact zs_zret hE rfl dJ1_colorOf_12
  · refine zs_aload_n hE 0 rfl rfl dJ1_colorOf_8 ?_
    refine zs_getI hE (ci := 12) (k := 5) rfl (by decide) in_J33 (Or.inl q1681) (Or.inl rfl) dJ1_colorOf_9 (fun v1 => ?_)
    exact zs_zretA hE dJ1_colorOf_12
theorem hd_J1_colorOf : (yJ1_colorOf).cls ≠ "java/lang/invoke/MethodHandle" ∧ (yJ1_colorOf).cls ≠ "java/lang/invoke/VarHandle" ∧ (parseMethodDescriptor (yJ1_colorOf).desc).map (fun d => d.parameters.length) = some 1 := by decide +kernel
theorem met_J1_colorOf (K : ZK) (a1 : Option Nat) : zMeth K yJ1_colorOf (zws yJ1_colorOf cJ1_colorOf 1 (Option.some Jvm.ClassFile.FieldType.boolean)) 1 100 [va_rf a1] encI (s_J1_colorOf K a1) :=
  fun l G hl hK => zmet_of hl hK (by decide +kernel) rfl rfl (by simp [zsl_nil, zsl_rf, zsl_r, zsl_i, zsl_j, zsl_f, zsl_d]) (fun x hE => by simp only [zla_nil, zla_rf, zla_r, zla_i, zla_j, zla_f, zla_d, Nat.reduceAdd]; exact sm_J1_colorOf hE a1)
theorem sm_J1_setColor {x : ZX Unit} {K : ZK} (hE : zE x K cJ1_setColor RJ1 "setColor" 2 1 100 encV none []) (a1 : Option Nat) (a2 : Int32) : zS x 0 [(0, va_rf a1), (1, .int a2)] [] (s_J1_setColor K a1 a2) := by
  unfold s_J1_setColor
  refine zs_aload_n hE 0 rfl rfl dJ1_setColor_0 ?_
  refine zs_ifnull hE 9 (by decide) dJ1_setColor_1 ?_ ?_
  · exact zs_vret hE dJ1_setColor_9
  · refine zs_aload_n hE 0 rfl rfl dJ1_setColor_4 ?_
    refine zs_iload_n hE 1 rfl rfl dJ1_setColor_5 ?_
    refine zs_putT hE (ci := 12) (k := 5) rfl (by decide) in_J33 (Or.inl q1681) (Or.inl rfl) (Or.inl rfl) (fun h => nomatch h) rfl dJ1_setColor_6 ?_
    exact zs_vret hE dJ1_setColor_9
theorem hd_J1_setColor : (yJ1_setColor).cls ≠ "java/lang/invoke/MethodHandle" ∧ (yJ1_setColor).cls ≠ "java/lang/invoke/VarHandle" ∧ (parseMethodDescriptor (yJ1_setColor).desc).map (fun d => d.parameters.length) = some 2 := by decide +kernel
theorem met_J1_setColor (K : ZK) (a1 : Option Nat) (a2 : Int32) : zMeth K yJ1_setColor (zws yJ1_setColor cJ1_setColor 2 none) 1 100 [va_rf a1, .int a2] encV (s_J1_setColor K a1 a2) :=
  fun l G hl hK => zmet_of hl hK (by decide +kernel) rfl rfl (by simp [zsl_nil, zsl_rf, zsl_r, zsl_i, zsl_j, zsl_f, zsl_d]) (fun x hE => by simp only [zla_nil, zla_rf, zla_r, zla_i, zla_j, zla_f, zla_d, Nat.reduceAdd]; exact sm_J1_setColor hE a1 a2)
theorem sm_J1_rotateLeft_J85 {x : ZX Unit} {K : ZK} (hE : zE x K cJ1_rotateLeft RJ1 "rotateLeft" 3 1 100 encV none []) (x1 : Option Nat) (x2 : Option Nat) : zS x 85 [(1, va_rf x1), (2, va_rf x2)] [] (s_J1_rotateLeft_J85 K x1 x2) := by
  unfold s_J1_rotateLeft_J85
  refine zs_aload_n hE 1 rfl rfl dJ1_rotateLeft_85 ?_
  refine zs_aload_n hE 0 rfl rfl dJ1_rotateLeft_86 ?_
  refine zs_putR hE (ci := 12) (k := 2) rfl (by decide) in_J33 (Or.inl q1676) (Or.inl rfl) (Or.inl rfl) (fun h => nomatch h) (tyJ33_ok 2 (by decide)) (Or.inl ⟨_, rfl⟩) dJ1_rotateLeft_87 ?_
  refine zs_aload_n hE 0 rfl rfl dJ1_rotateLeft_90 ?_
  refine zs_aload_n hE 1 rfl rfl dJ1_rotateLeft_91 ?_
  refine zs_putR hE (ci := 12) (k := 4) rfl (by decide) in_J33 (Or.inl q1679) (Or.inl rfl) (Or.inl rfl) (fun h => nomatch h) (tyJ33_ok 4 (by decide)) (Or.inl ⟨_, rfl⟩) dJ1_rotateLeft_92 ?_
  exact zs_vret hE dJ1_rotateLeft_95
theorem sm_J1_rotateLeft_J32 {x : ZX Unit} {K : ZK} (hE : zE x K cJ1_rotateLeft RJ1 "rotateLeft" 3 1 100 encV none []) (x0 : Nat) (x1 : Option Nat) (x2 : Option Nat) : zS x 32 [(0, va_rf (some x0)), (1, va_rf x1), (2, va_rf x2)] [] (s_J1_rotateLeft_J32 K x0 x1 x2) := by
  unfold s_J1_rotateLeft_J32
  refine zs_aload_n hE 2 rfl rfl dJ1_rotateLeft_32 ?_
  refine zs_aload_n hE 1 rfl rfl dJ1_rotateLeft_33 ?_
  refine zs_getR hE (ci := 12) (k := 4) rfl (by decide) in_J33 (Or.inl q1679) (Or.inl rfl) dJ1_rotateLeft_34 (fun v4 => ?_)
  refine zs_putR hE (ci := 12) (k := 4) rfl (by decide) in_J33 (Or.inl q1679) (Or.inl rfl) (Or.inl rfl) (fun h => nomatch h) (tyJ33_ok 4 (by decide)) (Or.inl ⟨_, rfl⟩) dJ1_rotateLeft_37 ?_
  refine zs_aload_n hE 1 rfl rfl dJ1_rotateLeft_40 ?_
  refine zs_getR hE (ci := 12) (k := 4) rfl (by decide) in_J33 (Or.inl q1679) (Or.inl rfl) dJ1_rotateLeft_41 (fun v5 => ?_)
  refine zs_ifnonnull hE 55 (by decide) dJ1_rotateLeft_44 ?_ ?_
  · refine zs_aload_n hE 0 rfl rfl dJ1_rotateLeft_47 ?_
    refine zs_aload_n hE 2 rfl rfl dJ1_rotateLeft_48 ?_
    refine zs_putR hE (ci := 0) (k := 3) rfl (by decide) in_J1 (Or.inl q187) (Or.inl rfl) (Or.inl rfl) (fun h => nomatch h) (tyJ1_ok 3 (by decide)) (Or.inl ⟨_, rfl⟩) dJ1_rotateLeft_49 ?_
    refine zs_goto hE 85 (by decide) dJ1_rotateLeft_52 ?_
    refine zs_sub [1, 2] rfl ?_
    exact sm_J1_rotateLeft_J85 hE x1 x2
  · refine zs_aload_n hE 1 rfl rfl dJ1_rotateLeft_55 ?_
    refine zs_getR hE (ci := 12) (k := 4) rfl (by decide) in_J33 (Or.inl q1679) (Or.inl rfl) dJ1_rotateLeft_56 (fun v6 => ?_)
    refine zs_getR hE (ci := 12) (k := 2) rfl (by decide) in_J33 (Or.inl q1676) (Or.inl rfl) dJ1_rotateLeft_59 (fun v7 => ?_)
    refine zs_aload_n hE 1 rfl rfl dJ1_rotateLeft_62 ?_
    refine zs_acmp_ne hE 77 (by decide) dJ1_rotateLeft_63 ?_ ?_
    · refine zs_aload_n hE 1 rfl rfl dJ1_rotateLeft_66 ?_
      refine zs_getR hE (ci := 12) (k := 4) rfl (by decide) in_J33 (Or.inl q1679) (Or.inl rfl) dJ1_rotateLeft_67 (fun v8 => ?_)
      refine zs_aload_n hE 2 rfl rfl dJ1_rotateLeft_70 ?_
      refine zs_putR hE (ci := 12) (k := 2) rfl (by decide) in_J33 (Or.inl q1676) (Or.inl rfl) (Or.inl rfl) (fun h => nomatch h) (tyJ33_ok 2 (by decide)) (Or.inl ⟨_, rfl⟩) dJ1_rotateLeft_71 ?_
      refine zs_goto hE 85 (by decide) dJ1_rotateLeft_74 ?_
      refine zs_sub [1, 2] rfl ?_
      exact sm_J1_rotateLeft_J85 hE x1 x2
    · refine zs_aload_n hE 1 rfl rfl dJ1_rotateLeft_77 ?_
      refine zs_getR hE (ci := 12) (k := 4) rfl (by decide) in_J33 (Or.inl q1679) (Or.inl rfl) dJ1_rotateLeft_78 (fun v9 => ?_)
      refine zs_aload_n hE 2 rfl rfl dJ1_rotateLeft_81 ?_
      refine zs_putR hE (ci := 12) (k := 3) rfl (by decide) in_J33 (Or.inl q1677) (Or.inl rfl) (Or.inl rfl) (fun h => nomatch h) (tyJ33_ok 3 (by decide)) (Or.inl ⟨_, rfl⟩) dJ1_rotateLeft_82 ?_
      refine zs_sub [1, 2] rfl ?_
      exact sm_J1_rotateLeft_J85 hE x1 x2
theorem sm_J1_rotateLeft {x : ZX Unit} {K : ZK} (hE : zE x K cJ1_rotateLeft RJ1 "rotateLeft" 3 1 100 encV none []) (this : Nat) (a1 : Option Nat) : zS x 0 [(0, va_rf (some this)), (1, va_rf a1)] [] (s_J1_rotateLeft K this a1) := by
  unfold s_J1_rotateLeft
  refine zs_aload_n hE 1 rfl rfl dJ1_rotateLeft_0 ?_
  refine zs_ifnull hE 95 (by decide) dJ1_rotateLeft_1 ?_ ?_
  · exact zs_vret hE dJ1_rotateLeft_95
  · refine zs_aload_n hE 1 rfl rfl dJ1_rotateLeft_4 ?_
    refine zs_getR hE (ci := 12) (k := 3) rfl (by decide) in_J33 (Or.inl q1677) (Or.inl rfl) dJ1_rotateLeft_5 (fun v1 => ?_)
    refine zs_astore_n hE (i := 2) (q := 2) rfl (by decide) (zcat_rf a1) (lv' := [(0, va_rf (some this)), (1, va_rf a1)]) rfl dJ1_rotateLeft_8 ?_
    refine zs_aload_n hE 2 rfl rfl dJ1_rotateLeft_9 ?_
    refine zs_aload_n hE 0 rfl rfl dJ1_rotateLeft_10 ?_
    refine zs_getR hE (ci := 12) (k := 2) rfl (by decide) in_J33 (Or.inl q1676) (Or.inl rfl) dJ1_rotateLeft_11 (fun v2 => ?_)
    refine zs_putR hE (ci := 12) (k := 3) rfl (by decide) in_J33 (Or.inl q1677) (Or.inl rfl) (Or.inl rfl) (fun h => nomatch h) (tyJ33_ok 3 (by decide)) (Or.inl ⟨_, rfl⟩) dJ1_rotateLeft_14 ?_
    refine zs_aload_n hE 0 rfl rfl dJ1_rotateLeft_17 ?_
    refine zs_getR hE (ci := 12) (k := 2) rfl (by decide) in_J33 (Or.inl q1676) (Or.inl rfl) dJ1_rotateLeft_18 (fun v3 => ?_)
    refine zs_ifnull hE 32 (by decide) dJ1_rotateLeft_21 ?_ ?_
    · refine zs_sub [1, 2, 0] rfl ?_
      exact sm_J1_rotateLeft_J32 hE this a1 v1
    · refine zs_aload_n hE 0 rfl rfl dJ1_rotateLeft_24 ?_
      refine zs_getR hE (ci := 12) (k := 2) rfl (by decide) in_J33 (Or.inl q1676) (Or.inl rfl) dJ1_rotateLeft_25 (fun v10 => ?_)
      refine zs_aload_n hE 2 rfl rfl dJ1_rotateLeft_28 ?_
      refine zs_putR hE (ci := 12) (k := 4) rfl (by decide) in_J33 (Or.inl q1679) (Or.inl rfl) (Or.inl rfl) (fun h => nomatch h) (tyJ33_ok 4 (by decide)) (Or.inl ⟨_, rfl⟩) dJ1_rotateLeft_29 ?_
      refine zs_sub [1, 2, 0] rfl ?_
      exact sm_J1_rotateLeft_J32 hE this a1 v1
theorem hd_J1_rotateLeft : (yJ1_rotateLeft).cls ≠ "java/lang/invoke/MethodHandle" ∧ (yJ1_rotateLeft).cls ≠ "java/lang/invoke/VarHandle" ∧ (parseMethodDescriptor (yJ1_rotateLeft).desc).map (fun d => d.parameters.length) = some 1 := by decide +kernel
theorem met_J1_rotateLeft (K : ZK) (this : Nat) (a1 : Option Nat) : zMeth K yJ1_rotateLeft (zws yJ1_rotateLeft cJ1_rotateLeft 3 none) 1 100 [.ref this, va_rf a1] encV (s_J1_rotateLeft K this a1) :=
  fun l G hl hK => zmet_of hl hK (by decide +kernel) rfl rfl (by simp [zsl_nil, zsl_rf, zsl_r, zsl_i, zsl_j, zsl_f, zsl_d]) (fun x hE => by simp only [zla_nil, zla_rf, zla_r, zla_i, zla_j, zla_f, zla_d, Nat.reduceAdd]; exact sm_J1_rotateLeft hE this a1)
theorem sm_J1_rotateRight_J85 {x : ZX Unit} {K : ZK} (hE : zE x K cJ1_rotateRight RJ1 "rotateRight" 3 1 100 encV none []) (x1 : Option Nat) (x2 : Option Nat) : zS x 85 [(1, va_rf x1), (2, va_rf x2)] [] (s_J1_rotateRight_J85 K x1 x2) := by
  unfold s_J1_rotateRight_J85
  refine zs_aload_n hE 1 rfl rfl dJ1_rotateRight_85 ?_
  refine zs_aload_n hE 0 rfl rfl dJ1_rotateRight_86 ?_
  refine zs_putR hE (ci := 12) (k := 3) rfl (by decide) in_J33 (Or.inl q1677) (Or.inl rfl) (Or.inl rfl) (fun h => nomatch h) (tyJ33_ok 3 (by decide)) (Or.inl ⟨_, rfl⟩) dJ1_rotateRight_87 ?_
  refine zs_aload_n hE 0 rfl rfl dJ1_rotateRight_90 ?_
  refine zs_aload_n hE 1 rfl rfl dJ1_rotateRight_91 ?_
  refine zs_putR hE (ci := 12) (k := 4) rfl (by decide) in_J33 (Or.inl q1679) (Or.inl rfl) (Or.inl rfl) (fun h => nomatch h) (tyJ33_ok 4 (by decide)) (Or.inl ⟨_, rfl⟩) dJ1_rotateRight_92 ?_
  exact zs_vret hE dJ1_rotateRight_95
theorem sm_J1_rotateRight_J32 {x : ZX Unit} {K : ZK} (hE : zE x K cJ1_rotateRight RJ1 "rotateRight" 3 1 100 encV none []) (x0 : Nat) (x1 : Option Nat) (x2 : Option Nat) : zS x 32 [(0, va_rf (some x0)), (1, va_rf x1), (2, va_rf x2)] [] (s_J1_rotateRight_J32 K x0 x1 x2) := by
  unfold s_J1_rotateRight_J32
  refine zs_aload_n hE 2 rfl rfl dJ1_rotateRight_32 ?_
  refine zs_aload_n hE 1 rfl rfl dJ1_rotateRight_33 ?_
  refine zs_getR hE (ci := 12) (k := 4) rfl (by decide) in_J33 (Or.inl q1679) (Or.inl rfl) dJ1_rotateRight_34 (fun v4 => ?_)
  refine zs_putR hE (ci := 12) (k := 4) rfl (by decide) in_J33 (Or.inl q1679) (Or.inl rfl) (Or.inl rfl) (fun h => nomatch h) (tyJ33_ok 4 (by decide)) (Or.inl ⟨_, rfl⟩) dJ1_rotateRight_37 ?_
  refine zs_aload_n hE 1 rfl rfl dJ1_rotateRight_40 ?_
  refine zs_getR hE (ci := 12) (k := 4) rfl (by decide) in_J33 (Or.inl q1679) (Or.inl rfl) dJ1_rotateRight_41 (fun v5 => ?_)
  refine zs_ifnonnull hE 55 (by decide) dJ1_rotateRight_44 ?_ ?_
  · refine zs_aload_n hE 0 rfl rfl dJ1_rotateRight_47 ?_
    refine zs_aload_n hE 2 rfl rfl dJ1_rotateRight_48 ?_
    refine zs_putR hE (ci := 0) (k := 3) rfl (by decide) in_J1 (Or.inl q187) (Or.inl rfl) (Or.inl rfl) (fun h => nomatch h) (tyJ1_ok 3 (by decide)) (Or.inl ⟨_, rfl⟩) dJ1_rotateRight_49 ?_
    refine zs_goto hE 85 (by decide) dJ1_rotateRight_52 ?_
    refine zs_sub [1, 2] rfl ?_
    exact sm_J1_rotateRight_J85 hE x1 x2
  · refine zs_aload_n hE 1 rfl rfl dJ1_rotateRight_55 ?_
    refine zs_getR hE (ci := 12) (k := 4) rfl (by decide) in_J33 (Or.inl q1679) (Or.inl rfl) dJ1_rotateRight_56 (fun v6 => ?_)
    refine zs_getR hE (ci := 12) (k := 3) rfl (by decide) in_J33 (Or.inl q1677) (Or.inl rfl) dJ1_rotateRight_59 (fun v7 => ?_)
    refine zs_aload_n hE 1 rfl rfl dJ1_rotateRight_62 ?_
    refine zs_acmp_ne hE 77 (by decide) dJ1_rotateRight_63 ?_ ?_
    · refine zs_aload_n hE 1 rfl rfl dJ1_rotateRight_66 ?_
      refine zs_getR hE (ci := 12) (k := 4) rfl (by decide) in_J33 (Or.inl q1679) (Or.inl rfl) dJ1_rotateRight_67 (fun v8 => ?_)
      refine zs_aload_n hE 2 rfl rfl dJ1_rotateRight_70 ?_
      refine zs_putR hE (ci := 12) (k := 3) rfl (by decide) in_J33 (Or.inl q1677) (Or.inl rfl) (Or.inl rfl) (fun h => nomatch h) (tyJ33_ok 3 (by decide)) (Or.inl ⟨_, rfl⟩) dJ1_rotateRight_71 ?_
      refine zs_goto hE 85 (by decide) dJ1_rotateRight_74 ?_
      refine zs_sub [1, 2] rfl ?_
      exact sm_J1_rotateRight_J85 hE x1 x2
    · refine zs_aload_n hE 1 rfl rfl dJ1_rotateRight_77 ?_
      refine zs_getR hE (ci := 12) (k := 4) rfl (by decide) in_J33 (Or.inl q1679) (Or.inl rfl) dJ1_rotateRight_78 (fun v9 => ?_)
      refine zs_aload_n hE 2 rfl rfl dJ1_rotateRight_81 ?_
      refine zs_putR hE (ci := 12) (k := 2) rfl (by decide) in_J33 (Or.inl q1676) (Or.inl rfl) (Or.inl rfl) (fun h => nomatch h) (tyJ33_ok 2 (by decide)) (Or.inl ⟨_, rfl⟩) dJ1_rotateRight_82 ?_
      refine zs_sub [1, 2] rfl ?_
      exact sm_J1_rotateRight_J85 hE x1 x2
theorem sm_J1_rotateRight {x : ZX Unit} {K : ZK} (hE : zE x K cJ1_rotateRight RJ1 "rotateRight" 3 1 100 encV none []) (this : Nat) (a1 : Option Nat) : zS x 0 [(0, va_rf (some this)), (1, va_rf a1)] [] (s_J1_rotateRight K this a1) := by
  unfold s_J1_rotateRight
  refine zs_aload_n hE 1 rfl rfl dJ1_rotateRight_0 ?_
  refine zs_ifnull hE 95 (by decide) dJ1_rotateRight_1 ?_ ?_
  · exact zs_vret hE dJ1_rotateRight_95
  · refine zs_aload_n hE 1 rfl rfl dJ1_rotateRight_4 ?_
    refine zs_getR hE (ci := 12) (k := 2) rfl (by decide) in_J33 (Or.inl q1676) (Or.inl rfl) dJ1_rotateRight_5 (fun v1 => ?_)
    refine zs_astore_n hE (i := 2) (q := 2) rfl (by decide) (zcat_rf a1) (lv' := [(0, va_rf (some this)), (1, va_rf a1)]) rfl dJ1_rotateRight_8 ?_
    refine zs_aload_n hE 2 rfl rfl dJ1_rotateRight_9 ?_
    refine zs_aload_n hE 0 rfl rfl dJ1_rotateRight_10 ?_
    refine zs_getR hE (ci := 12) (k := 3) rfl (by decide) in_J33 (Or.inl q1677) (Or.inl rfl) dJ1_rotateRight_11 (fun v2 => ?_)
    refine zs_putR hE (ci := 12) (k := 2) rfl (by decide) in_J33 (Or.inl q1676) (Or.inl rfl) (Or.inl rfl) (fun h => nomatch h) (tyJ33_ok 2 (by decide)) (Or.inl ⟨_, rfl⟩) dJ1_rotateRight_14 ?_
    refine zs_aload_n hE 0 rfl rfl dJ1_rotateRight_17 ?_
    refine zs_getR hE (ci := 12) (k := 3) rfl (by decide) in_J33 (Or.inl q1677) (Or.inl rfl) dJ1_rotateRight_18 (fun v3 => ?_)
    refine zs_ifnull hE 32 (by decide) dJ1_rotateRight_21 ?_ ?_
    · refine zs_sub [1, 2, 0] rfl ?_
      exact sm_J1_rotateRight_J32 hE this a1 v1
    · refine zs_aload_n hE 0 rfl rfl dJ1_rotateRight_24 ?_
      refine zs_getR hE (ci := 12) (k := 3) rfl (by decide) in_J33 (Or.inl q1677) (Or.inl rfl) dJ1_rotateRight_25 (fun v10 => ?_)
      refine zs_aload_n hE 2 rfl rfl dJ1_rotateRight_28 ?_
      refine zs_putR hE (ci := 12) (k := 4) rfl (by decide) in_J33 (Or.inl q1679) (Or.inl rfl) (Or.inl rfl) (fun h => nomatch h) (tyJ33_ok 4 (by decide)) (Or.inl ⟨_, rfl⟩) dJ1_rotateRight_29 ?_
      refine zs_sub [1, 2, 0] rfl ?_
      exact sm_J1_rotateRight_J32 hE this a1 v1
theorem hd_J1_rotateRight : (yJ1_rotateRight).cls ≠ "java/lang/invoke/MethodHandle" ∧ (yJ1_rotateRight).cls ≠ "java/lang/invoke/VarHandle" ∧ (parseMethodDescriptor (yJ1_rotateRight).desc).map (fun d => d.parameters.length) = some 1 := by decide +kernel
theorem met_J1_rotateRight (K : ZK) (this : Nat) (a1 : Option Nat) : zMeth K yJ1_rotateRight (zws yJ1_rotateRight cJ1_rotateRight 3 none) 1 100 [.ref this, va_rf a1] encV (s_J1_rotateRight K this a1) :=
  fun l G hl hK => zmet_of hl hK (by decide +kernel) rfl rfl (by simp [zsl_nil, zsl_rf, zsl_r, zsl_i, zsl_j, zsl_f, zsl_d]) (fun x hE => by simp only [zla_nil, zla_rf, zla_r, zla_i, zla_j, zla_f, zla_d, Nat.reduceAdd]; exact sm_J1_rotateRight hE this a1)
theorem sm_J1_fixAfterInsertion_J258 {x : ZX Unit} {K : ZK} (hE : zE x K cJ1_fixAfterInsertion RJ1 "fixAfterInsertion" 3 2 122 encV none []) (x0 : Nat) : zS x 258 [(0, va_rf (some x0))] [] (s_J1_fixAfterInsertion_J258 K x0) := by
  unfold s_J1_fixAfterInsertion_J258
  refine zs_aload_n hE 0 rfl rfl dJ1_fixAfterInsertion_258 ?_
  refine zs_getR hE (ci := 0) (k := 3) rfl (by decide) in_J1 (Or.inl q187) (Or.inl rfl) dJ1_fixAfterInsertion_259 (fun v1 => ?_)
  refine zs_iconst hE (v := (1 : Int32)) (by decide) dJ1_fixAfterInsertion_262 ?_
  refine zs_putT hE (ci := 12) (k := 5) rfl (by decide) in_J33 (Or.inl q1681) (Or.inl rfl) (Or.inl rfl) (fun h => nomatch h) rfl dJ1_fixAfterInsertion_263 ?_
  exact zs_vret hE dJ1_fixAfterInsertion_266
theorem sm_J1_fixAfterInsertion_J118 {x : ZX Unit} {K : ZK} (hE : zE x K cJ1_fixAfterInsertion RJ1 "fixAfterInsertion" 3 2 122 encV none []) (x0 : Nat) (x1 : Option Nat) (self5 : (Option Nat) → ZP Unit) (hs5 : ∀ v : Option Nat, zS x 5 [(0, va_rf (some x0)), (1, va_rf v)] [] (self5 v)) : zS x 118 [(0, va_rf (some x0)), (1, va_rf x1)] [] (s_J1_fixAfterInsertion_J118 K x0 x1 self5) := by
  unfold s_J1_fixAfterInsertion_J118
  refine zs_aload_n hE 1 rfl rfl dJ1_fixAfterInsertion_118 ?_
  refine zs_callS hE (As := [va_rf x1]) (encA := encR) (met_J1_parentOf K x1) q1705 q98 q1703 q1704 hd_J1_parentOf (by decide) (by decide) rfl (by simp [zcat_rf, zcat_i, zcat_j, zcat_f, zcat_d]) (fun z hz => by cases hz) dJ1_fixAfterInsertion_119 (fun r21 => ?_)
  show zS _ 122 _ [va_rf r21] _
  refine zs_iconst hE (v := (1 : Int32)) (by decide) dJ1_fixAfterInsertion_122 ?_
  refine zs_callS hE (As := [va_rf r21, .int (1 : Int32)]) (encA := encV) (met_J1_setColor K r21 (1 : Int32)) q1717 q98 q1715 q1716 hd_J1_setColor (by decide) (by decide) rfl (by simp [zcat_rf, zcat_i, zcat_j, zcat_f, zcat_d]) (fun z hz => by cases hz) dJ1_fixAfterInsertion_123 (fun _ => ?_)
  show zS _ 126 _ [] _
  refine zs_aload_n hE 1 rfl rfl dJ1_fixAfterInsertion_126 ?_
  refine zs_callS hE (As := [va_rf x1]) (encA := encR) (met_J1_parentOf K x1) q1705 q98 q1703 q1704 hd_J1_parentOf (by decide) (by decide) rfl (by simp [zcat_rf, zcat_i, zcat_j, zcat_f, zcat_d]) (fun z hz => by cases hz) dJ1_fixAfterInsertion_127 (fun r22 => ?_)
  show zS _ 130 _ [va_rf r22] _
  refine zs_callS hE (As := [va_rf r22]) (encA := encR) (met_J1_parentOf K r22) q1705 q98 q1703 q1704 hd_J1_parentOf (by decide) (by decide) rfl (by simp [zcat_rf, zcat_i, zcat_j, zcat_f, zcat_d]) (fun z hz => by cases hz) dJ1_fixAfterInsertion_130 (fun r23 => ?_)
  show zS _ 133 _ [va_rf r23] _
  refine zs_iconst hE (v := (0 : Int32)) (by decide) dJ1_fixAfterInsertion_133 ?_
  refine zs_callS hE (As := [va_rf r23, .int (0 : Int32)]) (encA := encV) (met_J1_setColor K r23 (0 : Int32)) q1717 q98 q1715 q1716 hd_J1_setColor (by decide) (by decide) rfl (by simp [zcat_rf, zcat_i, zcat_j, zcat_f, zcat_d]) (fun z hz => by cases hz) dJ1_fixAfterInsertion_134 (fun _ => ?_)
  show zS _ 137 _ [] _
  refine zs_aload_n hE 0 rfl rfl dJ1_fixAfterInsertion_137 ?_
  refine zs_aload_n hE 1 rfl rfl dJ1_fixAfterInsertion_138 ?_
  refine zs_callS hE (As := [va_rf x1]) (encA := encR) (met_J1_parentOf K x1) q1705 q98 q1703 q1704 hd_J1_parentOf (by decide) (by decide) rfl (by simp [zcat_rf, zcat_i, zcat_j, zcat_f, zcat_d]) (fun z hz => by cases hz) dJ1_fixAfterInsertion_139 (fun r24 => ?_)
  show zS _ 142 _ [va_rf r24, va_rf (some x0)] _
  refine zs_callS hE (As := [va_rf r24]) (encA := encR) (met_J1_parentOf K r24) q1705 q98 q1703 q1704 hd_J1_parentOf (by decide) (by decide) rfl (by simp [zcat_rf, zcat_i, zcat_j, zcat_f, zcat_d]) (fun z hz => by cases hz) dJ1_fixAfterInsertion_142 (fun r25 => ?_)
  show zS _ 145 _ [va_rf r25, va_rf (some x0)] _
  refine zs_callV hE (As := [va_rf r25]) (encA := encV) (ci := 0) rfl (fun y0 => met_J1_rotateRight K y0 r25) q1725 q98 q1722 q1724 (zq qs9) hd_J1_rotateRight (by decide) (by decide) rfl (by simp [zcat_rf, zcat_i, zcat_j, zcat_f, zcat_d]) (fun z hz => by cases hz) dJ1_fixAfterInsertion_145 (fun _ => ?_)
  show zS _ 148 _ [] _
  refine zs_goto hE 5 (by decide) dJ1_fixAfterInsertion_148 ?_
  exact hs5 x1
theorem sm_J1_fixAfterInsertion_J225 {x : ZX Unit} {K : ZK} (hE : zE x K cJ1_fixAfterInsertion RJ1 "fixAfterInsertion" 3 2 122 encV none []) (x0 : Nat) (x1 : Option Nat) (self5 : (Option Nat) → ZP Unit) (hs5 : ∀ v : Option Nat, zS x 5 [(0, va_rf (some x0)), (1, va_rf v)] [] (self5 v)) : zS x 225 [(0, va_rf (some x0)), (1, va_rf x1)] [] (s_J1_fixAfterInsertion_J225 K x0 x1 self5) := by
  unfold s_J1_fixAfterInsertion_J225
  refine zs_aload_n hE 1 rfl rfl dJ1_fixAfterInsertion_225 ?_
  refine zs_callS hE (As := [va_rf x1]) (encA := encR) (met_J1_parentOf K x1) q1705 q98 q1703 q1704 hd_J1_parentOf (by decide) (by decide) rfl (by simp [zcat_rf, zcat_i, zcat_j, zcat_f, zcat_d]) (fun z hz => by cases hz) dJ1_fixAfterInsertion_226 (fun r38 => ?_)
  show zS _ 229 _ [va_rf r38] _
  refine zs_iconst hE (v := (1 : Int32)) (by decide) dJ1_fixAfterInsertion_229 ?_
  refine zs_callS hE (As := [va_rf r38, .int (1 : Int32)]) (encA := encV) (met_J1_setColor K r38 (1 : Int32)) q1717 q98 q1715 q1716 hd_J1_setColor (by decide) (by decide) rfl (by simp [zcat_rf, zcat_i, zcat_j, zcat_f, zcat_d]) (fun z hz => by cases hz) dJ1_fixAfterInsertion_230 (fun _ => ?_)
  show zS _ 233 _ [] _
  refine zs_aload_n hE 1 rfl rfl dJ1_fixAfterInsertion_233 ?_
  refine zs_callS hE (As := [va_rf x1]) (encA := encR) (met_J1_parentOf K x1) q1705 q98 q1703 q1704 hd_J1_parentOf (by decide) (by decide) rfl (by simp [zcat_rf, zcat_i, zcat_j, zcat_f, zcat_d]) (fun z hz => by cases hz) dJ1_fixAfterInsertion_234 (fun r39 => ?_)
  show zS _ 237 _ [va_rf r39] _
  refine zs_callS hE (As := [va_rf r39]) (encA := encR) (met_J1_parentOf K r39) q1705 q98 q1703 q1704 hd_J1_parentOf (by decide) (by decide) rfl (by simp [zcat_rf, zcat_i, zcat_j, zcat_f, zcat_d]) (fun z hz => by cases hz) dJ1_fixAfterInsertion_237 (fun r40 => ?_)
  show zS _ 240 _ [va_rf r40] _
  refine zs_iconst hE (v := (0 : Int32)) (by decide) dJ1_fixAfterInsertion_240 ?_
  refine zs_callS hE (As := [va_rf r40, .int (0 : Int32)]) (encA := encV) (met_J1_setColor K r40 (0 : Int32)) q1717 q98 q1715 q1716 hd_J1_setColor (by decide) (by decide) rfl (by simp [zcat_rf, zcat_i, zcat_j, zcat_f, zcat_d]) (fun z hz => by cases hz) dJ1_fixAfterInsertion_241 (fun _ => ?_)
  show zS _ 244 _ [] _
  refine zs_aload_n hE 0 rfl rfl dJ1_fixAfterInsertion_244 ?_
  refine zs_aload_n hE 1 rfl rfl dJ1_fixAfterInsertion_245 ?_
  refine zs_callS hE (As := [va_rf x1]) (encA := encR) (met_J1_parentOf K x1) q1705 q98 q1703 q1704 hd_J1_parentOf (by decide) (by decide) rfl (by simp [zcat_rf, zcat_i, zcat_j, zcat_f, zcat_d]) (fun z hz => by cases hz) dJ1_fixAfterInsertion_246 (fun r41 => ?_)
  show zS _ 249 _ [va_rf r41, va_rf (some x0)] _
  refine zs_callS hE (As := [va_rf r41]) (encA := encR) (met_J1_parentOf K r41) q1705 q98 q1703 q1704 hd_J1_parentOf (by decide) (by decide) rfl (by simp [zcat_rf, zcat_i, zcat_j, zcat_f, zcat_d]) (fun z hz => by cases hz) dJ1_fixAfterInsertion_249 (fun r42 => ?_)
  show zS _ 252 _ [va_rf r42, va_rf (some x0)] _
  refine zs_callV hE (As := [va_rf r42]) (encA := encV) (ci := 0) rfl (fun y0 => met_J1_rotateLeft K y0 r42) q1721 q98 q1718 q1720 (zq qs8) hd_J1_rotateLeft (by decide) (by decide) rfl (by simp [zcat_rf, zcat_i, zcat_j, zcat_f, zcat_d]) (fun z hz => by cases hz) dJ1_fixAfterInsertion_252 (fun _ => ?_)
  show zS _ 255 _ [] _
  refine zs_goto hE 5 (by decide) dJ1_fixAfterInsertion_255 ?_
  exact hs5 x1
theorem sm_J1_fixAfterInsertion_B5 {x : ZX Unit} {K : ZK} (hE : zE x K cJ1_fixAfterInsertion RJ1 "fixAfterInsertion" 3 2 122 encV none []) (x0 : Nat) (self5 : (Option Nat) → ZP Unit) (hs5 : ∀ v : Option Nat, zS x 5 [(0, va_rf (some x0)), (1, va_rf v)] [] (self5 v)) (x1 : Option Nat) : zS x 5 [(0, va_rf (some x0)), (1, va_rf x1)] [] (s_J1_fixAfterInsertion_B5 K x0 self5 x1) := by
  unfold s_J1_fixAfterInsertion_B5
  refine zs_aload_n hE 1 rfl rfl dJ1_fixAfterInsertion_5 ?_
  refine zs_ifnull hE 258 (by decide) dJ1_fixAfterInsertion_6 ?_ ?_
  · refine zs_sub [0] rfl ?_
    exact sm_J1_fixAfterInsertion_J258 hE x0
  · refine zs_aload_n hE 1 rfl rfl dJ1_fixAfterInsertion_9 ?_
    refine zs_aload_n hE 0 rfl rfl dJ1_fixAfterInsertion_10 ?_
    refine zs_getR hE (ci := 0) (k := 3) rfl (by decide) in_J1 (Or.inl q187) (Or.inl rfl) dJ1_fixAfterInsertion_11 (fun v2 => ?_)
    refine zs_acmp_eq hE 258 (by decide) dJ1_fixAfterInsertion_14 ?_ ?_
    · refine zs_sub [0] rfl ?_
      exact sm_J1_fixAfterInsertion_J258 hE x0
    · refine zs_aload_n hE 1 rfl rfl dJ1_fixAfterInsertion_17 ?_
      refine zs_getR hE (ci := 12) (k := 4) rfl (by decide) in_J33 (Or.inl q1679) (Or.inl rfl) dJ1_fixAfterInsertion_18 (fun v3 => ?_)
      refine zs_getI hE (ci := 12) (k := 5) rfl (by decide) in_J33 (Or.inl q1681) (Or.inl rfl) dJ1_fixAfterInsertion_21 (fun v4 => ?_)
      refine zs_if_ne hE 258 (by decide) dJ1_fixAfterInsertion_24 ?_ ?_
      · refine zs_aload_n hE 1 rfl rfl dJ1_fixAfterInsertion_27 ?_
        refine zs_callS hE (As := [va_rf x1]) (encA := encR) (met_J1_parentOf K x1) q1705 q98 q1703 q1704 hd_J1_parentOf (by decide) (by decide) rfl (by simp [zcat_rf, zcat_i, zcat_j, zcat_f, zcat_d]) (fun z hz => by cases hz) dJ1_fixAfterInsertion_28 (fun r5 => ?_)
        show zS _ 31 _ [va_rf r5] _
        refine zs_aload_n hE 1 rfl rfl dJ1_fixAfterInsertion_31 ?_
        refine zs_callS hE (As := [va_rf x1]) (encA := encR) (met_J1_parentOf K x1) q1705 q98 q1703 q1704 hd_J1_parentOf (by decide) (by decide) rfl (by simp [zcat_rf, zcat_i, zcat_j, zcat_f, zcat_d]) (fun z hz => by cases hz) dJ1_fixAfterInsertion_32 (fun r6 => ?_)
        show zS _ 35 _ [va_rf r6, va_rf r5] _
        refine zs_callS hE (As := [va_rf r6]) (encA := encR) (met_J1_parentOf K r6) q1705 q98 q1703 q1704 hd_J1_parentOf (by decide) (by decide) rfl (by simp [zcat_rf, zcat_i, zcat_j, zcat_f, zcat_d]) (fun z hz => by cases hz) dJ1_fixAfterInsertion_35 (fun r7 => ?_)
        show zS _ 38 _ [va_rf r7, va_rf r5] _
        refine zs_callS hE (As := [va_rf r7]) (encA := encR) (met_J1_leftOf K r7) q1708 q98 q1706 q1707 hd_J1_leftOf (by decide) (by decide) rfl (by simp [zcat_rf, zcat_i, zcat_j, zcat_f, zcat_d]) (fun z hz => by cases hz) dJ1_fixAfterInsertion_38 (fun r8 => ?_)
        show zS _ 41 _ [va_rf r8, va_rf r5] _
        refine zs_acmp_ne hE 151 (by decide) dJ1_fixAfterInsertion_41 ?_ ?_
        · refine zs_aload_n hE 1 rfl rfl dJ1_fixAfterInsertion_44 ?_
          refine zs_callS hE (As := [va_rf x1]) (encA := encR) (met_J1_parentOf K x1) q1705 q98 q1703 q1704 hd_J1_parentOf (by decide) (by decide) rfl (by simp [zcat_rf, zcat_i, zcat_j, zcat_f, zcat_d]) (fun z hz => by cases hz) dJ1_fixAfterInsertion_45 (fun r9 => ?_)
          show zS _ 48 _ [va_rf r9] _
          refine zs_callS hE (As := [va_rf r9]) (encA := encR) (met_J1_parentOf K r9) q1705 q98 q1703 q1704 hd_J1_parentOf (by decide) (by decide) rfl (by simp [zcat_rf, zcat_i, zcat_j, zcat_f, zcat_d]) (fun z hz => by cases hz) dJ1_fixAfterInsertion_48 (fun r10 => ?_)
          show zS _ 51 _ [va_rf r10] _
          refine zs_callS hE (As := [va_rf r10]) (encA := encR) (met_J1_rightOf K r10) q1711 q98 q1709 q1710 hd_J1_rightOf (by decide) (by decide) rfl (by simp [zcat_rf, zcat_i, zcat_j, zcat_f, zcat_d]) (fun z hz => by cases hz) dJ1_fixAfterInsertion_51 (fun r11 => ?_)
          show zS _ 54 _ [va_rf r11] _
          refine zs_astore_n hE (i := 2) (q := 2) rfl (by decide) (zcat_rf x1) (lv' := [(0, va_rf (some x0)), (1, va_rf x1)]) rfl dJ1_fixAfterInsertion_54 ?_
          refine zs_aload_n hE 0 rfl rfl dJ1_fixAfterInsertion_55 ?_
          refine zs_callS hE (As := [va_rf r11]) (encA := encI) (met_J1_colorOf K r11) q1714 q98 q1712 q1713 hd_J1_colorOf (by decide) (by decide) rfl (by simp [zcat_rf, zcat_i, zcat_j, zcat_f, zcat_d]) (fun z hz => by cases hz) dJ1_fixAfterInsertion_56 (fun r12 => ?_)
          show zS _ 59 _ [.int r12] _
          refine zs_if_ne hE 97 (by decide) dJ1_fixAfterInsertion_59 ?_ ?_
          · refine zs_aload_n hE 2 rfl rfl dJ1_fixAfterInsertion_62 ?_
            refine zs_callS hE (As := [va_rf x1]) (encA := encR) (met_J1_parentOf K x1) q1705 q98 q1703 q1704 hd_J1_parentOf (by decide) (by decide) rfl (by simp [zcat_rf, zcat_i, zcat_j, zcat_f, zcat_d]) (fun z hz => by cases hz) dJ1_fixAfterInsertion_63 (fun r13 => ?_)
            show zS _ 66 _ [va_rf r13] _
            refine zs_iconst hE (v := (1 : Int32)) (by decide) dJ1_fixAfterInsertion_66 ?_
            refine zs_callS hE (As := [va_rf r13, .int (1 : Int32)]) (encA := encV) (met_J1_setColor K r13 (1 : Int32)) q1717 q98 q1715 q1716 hd_J1_setColor (by decide) (by decide) rfl (by simp [zcat_rf, zcat_i, zcat_j, zcat_f, zcat_d]) (fun z hz => by cases hz) dJ1_fixAfterInsertion_67 (fun _ => ?_)
            show zS _ 70 _ [] _
            refine zs_aload_n hE 0 rfl rfl dJ1_fixAfterInsertion_70 ?_
            refine zs_iconst hE (v := (1 : Int32)) (by decide) dJ1_fixAfterInsertion_71 ?_
            refine zs_callS hE (As := [va_rf r11, .int (1 : Int32)]) (encA := encV) (met_J1_setColor K r11 (1 : Int32)) q1717 q98 q1715 q1716 hd_J1_setColor (by decide) (by decide) rfl (by simp [zcat_rf, zcat_i, zcat_j, zcat_f, zcat_d]) (fun z hz => by cases hz) dJ1_fixAfterInsertion_72 (fun _ => ?_)
            show zS _ 75 _ [] _
            refine zs_aload_n hE 2 rfl rfl dJ1_fixAfterInsertion_75 ?_
            refine zs_callS hE (As := [va_rf x1]) (encA := encR) (met_J1_parentOf K x1) q1705 q98 q1703 q1704 hd_J1_parentOf (by decide) (by decide) rfl (by simp [zcat_rf, zcat_i, zcat_j, zcat_f, zcat_d]) (fun z hz => by cases hz) dJ1_fixAfterInsertion_76 (fun r14 => ?_)
            show zS _ 79 _ [va_rf r14] _
            refine zs_callS hE (As := [va_rf r14]) (encA := encR) (met_J1_parentOf K r14) q1705 q98 q1703 q1704 hd_J1_parentOf (by decide) (by decide) rfl (by simp [zcat_rf, zcat_i, zcat_j, zcat_f, zcat_d]) (fun z hz => by cases hz) dJ1_fixAfterInsertion_79 (fun r15 => ?_)
            show zS _ 82 _ [va_rf r15] _
            refine zs_iconst hE (v := (0 : Int32)) (by decide) dJ1_fixAfterInsertion_82 ?_
            refine zs_callS hE (As := [va_rf r15, .int (0 : Int32)]) (encA := encV) (met_J1_setColor K r15 (0 : Int32)) q1717 q98 q1715 q1716 hd_J1_setColor (by decide) (by decide) rfl (by simp [zcat_rf, zcat_i, zcat_j, zcat_f, zcat_d]) (fun z hz => by cases hz) dJ1_fixAfterInsertion_83 (fun _ => ?_)
            show zS _ 86 _ [] _
            refine zs_aload_n hE 2 rfl rfl dJ1_fixAfterInsertion_86 ?_
            refine zs_callS hE (As := [va_rf x1]) (encA := encR) (met_J1_parentOf K x1) q1705 q98 q1703 q1704 hd_J1_parentOf (by decide) (by decide) rfl (by simp [zcat_rf, zcat_i, zcat_j, zcat_f, zcat_d]) (fun z hz => by cases hz) dJ1_fixAfterInsertion_87 (fun r16 => ?_)
            show zS _ 90 _ [va_rf r16] _
            refine zs_callS hE (As := [va_rf r16]) (encA := encR) (met_J1_parentOf K r16) q1705 q98 q1703 q1704 hd_J1_parentOf (by decide) (by decide) rfl (by simp [zcat_rf, zcat_i, zcat_j, zcat_f, zcat_d]) (fun z hz => by cases hz) dJ1_fixAfterInsertion_90 (fun r17 => ?_)
            show zS _ 93 _ [va_rf r17] _
            refine zs_astore_n hE (i := 1) (q := 1) rfl (by decide) (zcat_rf (some x0)) (lv' := [(2, va_rf r11), (0, va_rf (some x0))]) rfl dJ1_fixAfterInsertion_93 ?_
            refine zs_goto hE 148 (by decide) dJ1_fixAfterInsertion_94 ?_
            refine zs_goto hE 5 (by decide) dJ1_fixAfterInsertion_148 ?_
            refine zs_sub [2, 0] rfl ?_
            exact hs5 r17
          · refine zs_aload_n hE 2 rfl rfl dJ1_fixAfterInsertion_97 ?_
            refine zs_aload_n hE 2 rfl rfl dJ1_fixAfterInsertion_98 ?_
            refine zs_callS hE (As := [va_rf x1]) (encA := encR) (met_J1_parentOf K x1) q1705 q98 q1703 q1704 hd_J1_parentOf (by decide) (by decide) rfl (by simp [zcat_rf, zcat_i, zcat_j, zcat_f, zcat_d]) (fun z hz => by cases hz) dJ1_fixAfterInsertion_99 (fun r18 => ?_)
            show zS _ 102 _ [va_rf r18, va_rf x1] _
            refine zs_callS hE (As := [va_rf r18]) (encA := encR) (met_J1_rightOf K r18) q1711 q98 q1709 q1710 hd_J1_rightOf (by decide) (by decide) rfl (by simp [zcat_rf, zcat_i, zcat_j, zcat_f, zcat_d]) (fun z hz => by cases hz) dJ1_fixAfterInsertion_102 (fun r19 => ?_)
            show zS _ 105 _ [va_rf r19, va_rf x1] _
            refine zs_acmp_ne hE 118 (by decide) dJ1_fixAfterInsertion_105 ?_ ?_
            · refine zs_aload_n hE 2 rfl rfl dJ1_fixAfterInsertion_108 ?_
              refine zs_callS hE (As := [va_rf x1]) (encA := encR) (met_J1_parentOf K x1) q1705 q98 q1703 q1704 hd_J1_parentOf (by decide) (by decide) rfl (by simp [zcat_rf, zcat_i, zcat_j, zcat_f, zcat_d]) (fun z hz => by cases hz) dJ1_fixAfterInsertion_109 (fun r20 => ?_)
              show zS _ 112 _ [va_rf r20] _
              refine zs_astore_n hE (i := 1) (q := 1) rfl (by decide) (zcat_rf (some x0)) (lv' := [(2, va_rf r11), (0, va_rf (some x0))]) rfl dJ1_fixAfterInsertion_112 ?_
              refine zs_aload_n hE 2 rfl rfl dJ1_fixAfterInsertion_113 ?_
              refine zs_aload_n hE 0 rfl rfl dJ1_fixAfterInsertion_114 ?_
              refine zs_callV hE (As := [va_rf r20]) (encA := encV) (ci := 0) rfl (fun y0 => met_J1_rotateLeft K y0 r20) q1721 q98 q1718 q1720 (zq qs8) hd_J1_rotateLeft (by decide) (by decide) rfl (by simp [zcat_rf, zcat_i, zcat_j, zcat_f, zcat_d]) (fun z hz => by cases hz) dJ1_fixAfterInsertion_115 (fun _ => ?_)
              show zS _ 118 _ [] _
              refine zs_sub [2, 0] rfl ?_
              exact sm_J1_fixAfterInsertion_J118 hE x0 r20 self5 hs5
            · refine zs_sub [1, 2] rfl ?_
              exact sm_J1_fixAfterInsertion_J118 hE x0 x1 self5 hs5
        · refine zs_aload_n hE 1 rfl rfl dJ1_fixAfterInsertion_151 ?_
          refine zs_callS hE (As := [va_rf x1]) (encA := encR) (met_J1_parentOf K x1) q1705 q98 q1703 q1704 hd_J1_parentOf (by decide) (by decide) rfl (by simp [zcat_rf, zcat_i, zcat_j, zcat_f, zcat_d]) (fun z hz => by cases hz) dJ1_fixAfterInsertion_152 (fun r26 => ?_)
          show zS _ 155 _ [va_rf r26] _
          refine zs_callS hE (As := [va_rf r26]) (encA := encR) (met_J1_parentOf K r26) q1705 q98 q1703 q1704 hd_J1_parentOf (by decide) (by decide) rfl (by simp [zcat_rf, zcat_i, zcat_j, zcat_f, zcat_d]) (fun z hz => by cases hz) dJ1_fixAfterInsertion_155 (fun r27 => ?_)
          show zS _ 158 _ [va_rf r27] _
          refine zs_callS hE (As := [va_rf r27]) (encA := encR) (met_J1_leftOf K r27) q1708 q98 q1706 q1707 hd_J1_leftOf (by decide) (by decide) rfl (by simp [zcat_rf, zcat_i, zcat_j, zcat_f, zcat_d]) (fun z hz => by cases hz) dJ1_fixAfterInsertion_158 (fun r28 => ?_)
          show zS _ 161 _ [va_rf r28] _
          refine zs_astore_n hE (i := 2) (q := 2) rfl (by decide) (zcat_rf x1) (lv' := [(0, va_rf (some x0)), (1, va_rf x1)]) rfl dJ1_fixAfterInsertion_161 ?_
          refine zs_aload_n hE 0 rfl rfl dJ1_fixAfterInsertion_162 ?_
          refine zs_callS hE (As := [va_rf r28]) (encA := encI) (met_J1_colorOf K r28) q1714 q98 q1712 q1713 hd_J1_colorOf (by decide) (by decide) rfl (by simp [zcat_rf, zcat_i, zcat_j, zcat_f, zcat_d]) (fun z hz => by cases hz) dJ1_fixAfterInsertion_163 (fun r29 => ?_)
          show zS _ 166 _ [.int r29] _
          refine zs_if_ne hE 204 (by decide) dJ1_fixAfterInsertion_166 ?_ ?_
          · refine zs_aload_n hE 2 rfl rfl dJ1_fixAfterInsertion_169 ?_
            refine zs_callS hE (As := [va_rf x1]) (encA := encR) (met_J1_parentOf K x1) q1705 q98 q1703 q1704 hd_J1_parentOf (by decide) (by decide) rfl (by simp [zcat_rf, zcat_i, zcat_j, zcat_f, zcat_d]) (fun z hz => by cases hz) dJ1_fixAfterInsertion_170 (fun r30 => ?_)
            show zS _ 173 _ [va_rf r30] _
            refine zs_iconst hE (v := (1 : Int32)) (by decide) dJ1_fixAfterInsertion_173 ?_
            refine zs_callS hE (As := [va_rf r30, .int (1 : Int32)]) (encA := encV) (met_J1_setColor K r30 (1 : Int32)) q1717 q98 q1715 q1716 hd_J1_setColor (by decide) (by decide) rfl (by simp [zcat_rf, zcat_i, zcat_j, zcat_f, zcat_d]) (fun z hz => by cases hz) dJ1_fixAfterInsertion_174 (fun _ => ?_)
            show zS _ 177 _ [] _
            refine zs_aload_n hE 0 rfl rfl dJ1_fixAfterInsertion_177 ?_
            refine zs_iconst hE (v := (1 : Int32)) (by decide) dJ1_fixAfterInsertion_178 ?_
            refine zs_callS hE (As := [va_rf r28, .int (1 : Int32)]) (encA := encV) (met_J1_setColor K r28 (1 : Int32)) q1717 q98 q1715 q1716 hd_J1_setColor (by decide) (by decide) rfl (by simp [zcat_rf, zcat_i, zcat_j, zcat_f, zcat_d]) (fun z hz => by cases hz) dJ1_fixAfterInsertion_179 (fun _ => ?_)
            show zS _ 182 _ [] _
            refine zs_aload_n hE 2 rfl rfl dJ1_fixAfterInsertion_182 ?_
            refine zs_callS hE (As := [va_rf x1]) (encA := encR) (met_J1_parentOf K x1) q1705 q98 q1703 q1704 hd_J1_parentOf (by decide) (by decide) rfl (by simp [zcat_rf, zcat_i, zcat_j, zcat_f, zcat_d]) (fun z hz => by cases hz) dJ1_fixAfterInsertion_183 (fun r31 => ?_)
            show zS _ 186 _ [va_rf r31] _
            refine zs_callS hE (As := [va_rf r31]) (encA := encR) (met_J1_parentOf K r31) q1705 q98 q1703 q1704 hd_J1_parentOf (by decide) (by decide) rfl (by simp [zcat_rf, zcat_i, zcat_j, zcat_f, zcat_d]) (fun z hz => by cases hz) dJ1_fixAfterInsertion_186 (fun r32 => ?_)
            show zS _ 189 _ [va_rf r32] _
            refine zs_iconst hE (v := (0 : Int32)) (by decide) dJ1_fixAfterInsertion_189 ?_
            refine zs_callS hE (As := [va_rf r32, .int (0 : Int32)]) (encA := encV) (met_J1_setColor K r32 (0 : Int32)) q1717 q98 q1715 q1716 hd_J1_setColor (by decide) (by decide) rfl (by simp [zcat_rf, zcat_i, zcat_j, zcat_f, zcat_d]) (fun z hz => by cases hz) dJ1_fixAfterInsertion_190 (fun _ => ?_)
            show zS _ 193 _ [] _
            refine zs_aload_n hE 2 rfl rfl dJ1_fixAfterInsertion_193 ?_
            refine zs_callS hE (As := [va_rf x1]) (encA := encR) (met_J1_parentOf K x1) q1705 q98 q1703 q1704 hd_J1_parentOf (by decide) (by decide) rfl (by simp [zcat_rf, zcat_i, zcat_j, zcat_f, zcat_d]) (fun z hz => by cases hz) dJ1_fixAfterInsertion_194 (fun r33 => ?_)
            show zS _ 197 _ [va_rf r33] _
            refine zs_callS hE (As := [va_rf r33]) (encA := encR) (met_J1_parentOf K r33) q1705 q98 q1703 q1704 hd_J1_parentOf (by decide) (by decide) rfl (by simp [zcat_rf, zcat_i, zcat_j, zcat_f, zcat_d]) (fun z hz => by cases hz) dJ1_fixAfterInsertion_197 (fun r34 => ?_)
            show zS _ 200 _ [va_rf r34] _
            refine zs_astore_n hE (i := 1) (q := 1) rfl (by decide) (zcat_rf (some x0)) (lv' := [(2, va_rf r28), (0, va_rf (some x0))]) rfl dJ1_fixAfterInsertion_200 ?_
            refine zs_goto hE 255 (by decide) dJ1_fixAfterInsertion_201 ?_
            refine zs_goto hE 5 (by decide) dJ1_fixAfterInsertion_255 ?_
            refine zs_sub [2, 0] rfl ?_
            exact hs5 r34
          · refine zs_aload_n hE 2 rfl rfl dJ1_fixAfterInsertion_204 ?_
            refine zs_aload_n hE 2 rfl rfl dJ1_fixAfterInsertion_205 ?_
            refine zs_callS hE (As := [va_rf x1]) (encA := encR) (met_J1_parentOf K x1) q1705 q98 q1703 q1704 hd_J1_parentOf (by decide) (by decide) rfl (by simp [zcat_rf, zcat_i, zcat_j, zcat_f, zcat_d]) (fun z hz => by cases hz) dJ1_fixAfterInsertion_206 (fun r35 => ?_)
            show zS _ 209 _ [va_rf r35, va_rf x1] _
            refine zs_callS hE (As := [va_rf r35]) (encA := encR) (met_J1_leftOf K r35) q1708 q98 q1706 q1707 hd_J1_leftOf (by decide) (by decide) rfl (by simp [zcat_rf, zcat_i, zcat_j, zcat_f, zcat_d]) (fun z hz => by cases hz) dJ1_fixAfterInsertion_209 (fun r36 => ?_)
            show zS _ 212 _ [va_rf r36, va_rf x1] _
            refine zs_acmp_ne hE 225 (by decide) dJ1_fixAfterInsertion_212 ?_ ?_
            · refine zs_aload_n hE 2 rfl rfl dJ1_fixAfterInsertion_215 ?_
              refine zs_callS hE (As := [va_rf x1]) (encA := encR) (met_J1_parentOf K x1) q1705 q98 q1703 q1704 hd_J1_parentOf (by decide) (by decide) rfl (by simp [zcat_rf, zcat_i, zcat_j, zcat_f, zcat_d]) (fun z hz => by cases hz) dJ1_fixAfterInsertion_216 (fun r37 => ?_)
              show zS _ 219 _ [va_rf r37] _
              refine zs_astore_n hE (i := 1) (q := 1) rfl (by decide) (zcat_rf (some x0)) (lv' := [(2, va_rf r28), (0, va_rf (some x0))]) rfl dJ1_fixAfterInsertion_219 ?_
              refine zs_aload_n hE 2 rfl rfl dJ1_fixAfterInsertion_220 ?_
              refine zs_aload_n hE 0 rfl rfl dJ1_fixAfterInsertion_221 ?_
              refine zs_callV hE (As := [va_rf r37]) (encA := encV) (ci := 0) rfl (fun y0 => met_J1_rotateRight K y0 r37) q1725 q98 q1722 q1724 (zq qs9) hd_J1_rotateRight (by decide) (by decide) rfl (by simp [zcat_rf, zcat_i, zcat_j, zcat_f, zcat_d]) (fun z hz => by cases hz) dJ1_fixAfterInsertion_222 (fun _ => ?_)
              show zS _ 225 _ [] _
              refine zs_sub [2, 0] rfl ?_
              exact sm_J1_fixAfterInsertion_J225 hE x0 r37 self5 hs5
            · refine zs_sub [1, 2] rfl ?_
              exact sm_J1_fixAfterInsertion_J225 hE x0 x1 self5 hs5
      · refine zs_sub [0] rfl ?_
        exact sm_J1_fixAfterInsertion_J258 hE x0
theorem sm_J1_fixAfterInsertion_L5 {x : ZX Unit} {K : ZK} (hE : zE x K cJ1_fixAfterInsertion RJ1 "fixAfterInsertion" 3 2 122 encV none []) (x0 : Nat) (v : Option Nat) : zS x 5 [(0, va_rf (some x0)), (1, va_rf v)] [] (s_J1_fixAfterInsertion_L5 K x0 v) := by
  unfold s_J1_fixAfterInsertion_L5
  exact zs_loop (lvf := fun v => [(0, va_rf (some x0)), (1, va_rf v)]) (fun self5 hs5 v => sm_J1_fixAfterInsertion_B5 hE x0 self5 hs5 v) v
theorem sm_J1_fixAfterInsertion {x : ZX Unit} {K : ZK} (hE : zE x K cJ1_fixAfterInsertion RJ1 "fixAfterInsertion" 3 2 122 encV none []) (this : Nat) (a1 : Option Nat) : zS x 0 [(0, va_rf (some this)), (1, va_rf a1)] [] (s_J1_fixAfterInsertion K this a1) := by
  unfold s_J1_fixAfterInsertion
  refine zs_aload_n hE 1 rfl rfl dJ1_fixAfterInsertion_0 ?_
  refine zs_iconst hE (v := (0 : Int32)) (by decide) dJ1_fixAfterInsertion_1 ?_
  refine zs_putT hE (ci := 12) (k := 5) rfl (by decide) in_J33 (Or.inl q1681) (Or.inl rfl) (Or.inl rfl) (fun h => nomatch h) rfl dJ1_fixAfterInsertion_2 ?_
  exact sm_J1_fixAfterInsertion_L5 hE this a1
theorem hd_J1_fixAfterInsertion : (yJ1_fixAfterInsertion).cls ≠ "java/lang/invoke/MethodHandle" ∧ (yJ1_fixAfterInsertion).cls ≠ "java/lang/invoke/VarHandle" ∧ (parseMethodDescriptor (yJ1_fixAfterInsertion).desc).map (fun d => d.parameters.length) = some 1 := by decide +kernel
theorem met_J1_fixAfterInsertion (K : ZK) (this : Nat) (a1 : Option Nat) : zMeth K yJ1_fixAfterInsertion (zws yJ1_fixAfterInsertion cJ1_fixAfterInsertion 3 none) 2 122 [.ref this, va_rf a1] encV (s_J1_fixAfterInsertion K this a1) :=
  fun l G hl hK => zmet_of hl hK (by decide +kernel) rfl rfl (by simp [zsl_nil, zsl_rf, zsl_r, zsl_i, zsl_j, zsl_f, zsl_d]) (fun x hE => by simp only [zla_nil, zla_rf, zla_r, zla_i, zla_j, zla_f, zla_d, Nat.reduceAdd]; exact sm_J1_fixAfterInsertion hE this a1)
theorem sm_J1_addEntry_J32 {x : ZX Unit} {K : ZK} (hE : zE x K cJ1_addEntry RJ1 "addEntry" 6 3 144 encV none []) (x0 : Nat) (x5 : Nat) : zS x 32 [(0, va_rf (some x0)), (5, va_rf (some x5))] [] (s_J1_addEntry_J32 K x0 x5) := by
  unfold s_J1_addEntry_J32
  refine zs_aload_n hE 0 rfl rfl dJ1_addEntry_32 ?_
  refine zs_aload hE 1 rfl dJ1_addEntry_33 ?_
  refine zs_callV hE (As := [va_rf (some x5)]) (encA := encV) (ci := 0) rfl (fun y0 => met_J1_fixAfterInsertion K y0 (some x5)) q1702 q98 q1699 q1701 (zq qs7) hd_J1_fixAfterInsertion (by decide) (by decide) rfl (by simp [zcat_rf, zcat_i, zcat_j, zcat_f, zcat_d]) (fun z hz => by cases hz) dJ1_addEntry_35 (fun _ => ?_)
  show zS _ 38 _ [] _
  refine zs_aload_n hE 0 rfl rfl dJ1_addEntry_38 ?_
  refine zs_dup hE (zcat_rf _) dJ1_addEntry_39 ?_
  refine zs_getI hE (ci := 0) (k := 4) rfl (by decide) in_J1 (Or.inl q188) (Or.inl rfl) dJ1_addEntry_40 (fun v2 => ?_)
  refine zs_iconst hE (v := (1 : Int32)) (by decide) dJ1_addEntry_43 ?_
  refine zs_iadd hE dJ1_addEntry_44 ?_
  refine zs_putI hE (ci := 0) (k := 4) rfl (by decide) in_J1 (Or.inl q188) (Or.inl rfl) (Or.inl rfl) (fun h => nomatch h) rfl dJ1_addEntry_45 ?_
  refine zs_aload_n hE 0 rfl rfl dJ1_addEntry_48 ?_
  refine zs_dup hE (zcat_rf _) dJ1_addEntry_49 ?_
  refine zs_getI hE (ci := 0) (k := 5) rfl (by decide) in_J1 (Or.inl q189) (Or.inl rfl) dJ1_addEntry_50 (fun v3 => ?_)
  refine zs_iconst hE (v := (1 : Int32)) (by decide) dJ1_addEntry_53 ?_
  refine zs_iadd hE dJ1_addEntry_54 ?_
  refine zs_putI hE (ci := 0) (k := 5) rfl (by decide) in_J1 (Or.inl q189) (Or.inl rfl) (Or.inl rfl) (fun h => nomatch h) rfl dJ1_addEntry_55 ?_
  exact zs_vret hE dJ1_addEntry_58
theorem sm_J1_addEntry {x : ZX Unit} {K : ZK} (hE : zE x K cJ1_addEntry RJ1 "addEntry" 6 3 144 encV none []) (this : Nat) (a1 : Option Nat) (a2 : Option Nat) (a3 : Option Nat) (a4 : Int32) : zS x 0 [(0, va_rf (some this)), (1, va_rf a1), (2, va_rf a2), (3, va_rf a3), (4, .int a4)] [] (s_J1_addEntry K this a1 a2 a3 a4) := by
  unfold s_J1_addEntry
  refine zs_new hE (ci := 12) (fs := [.null, .null, .null, .null, .null, .int 0]) rfl in_J33 tyJ33 tyJ33_ok q1663 q1664 q136 (fun j hj => by rcases (show j = 0 ∨ j = 1 ∨ j = 2 ∨ j = 3 ∨ j = 4 ∨ j = 5 by omega) with rfl | rfl | rfl | rfl | rfl | rfl <;> rfl) dJ1_addEntry_0 (fun q1 => ?_)
  refine zs_dup hE (zcat_rf _) dJ1_addEntry_3 ?_
  refine zs_aload_n hE 1 rfl rfl dJ1_addEntry_4 ?_
  refine zs_aload_n hE 2 rfl rfl dJ1_addEntry_5 ?_
  refine zs_aload_n hE 3 rfl rfl dJ1_addEntry_6 ?_
  refine zs_callI hE (As := [va_rf a1, va_rf a2, va_rf a3]) (encA := encV) (met_J33_init K q1 a1 a2 a3) q1667 q136 q1665 q1666 rfl hd_J33_init (by decide) (by decide) rfl (by simp [zcat_rf, zcat_i, zcat_j, zcat_f, zcat_d]) (fun z hz => by cases hz) dJ1_addEntry_7 (fun _ => ?_)
  show zS _ 10 _ [va_rf (some q1)] _
  refine zs_astore hE (i := 5) (by decide) (rfl) (lv' := [(0, va_rf (some this)), (1, va_rf a1), (2, va_rf a2), (3, va_rf a3), (4, .int a4)]) rfl dJ1_addEntry_10 ?_
  refine zs_iload hE 5 rfl dJ1_addEntry_12 ?_
  refine zs_if_eq hE 26 (by decide) dJ1_addEntry_14 ?_ ?_
  · refine zs_aload_n hE 4 rfl rfl dJ1_addEntry_26 ?_
    refine zs_aload hE 0 rfl dJ1_addEntry_27 ?_
    refine zs_putR hE (ci := 12) (k := 3) rfl (by decide) in_J33 (Or.inl q1677) (Or.inl rfl) (Or.inl rfl) (fun h => nomatch h) (tyJ33_ok 3 (by decide)) (Or.inl ⟨_, rfl⟩) dJ1_addEntry_29 ?_
    refine zs_sub [1, 0] rfl ?_
    exact sm_J1_addEntry_J32 hE this q1
  · refine zs_aload_n hE 4 rfl rfl dJ1_addEntry_17 ?_
    refine zs_aload hE 0 rfl dJ1_addEntry_18 ?_
    refine zs_putR hE (ci := 12) (k := 2) rfl (by decide) in_J33 (Or.inl q1676) (Or.inl rfl) (Or.inl rfl) (fun h => nomatch h) (tyJ33_ok 2 (by decide)) (Or.inl ⟨_, rfl⟩) dJ1_addEntry_20 ?_
    refine zs_goto hE 32 (by decide) dJ1_addEntry_23 ?_
    refine zs_sub [1, 0] rfl ?_
    exact sm_J1_addEntry_J32 hE this q1
theorem hd_J1_addEntry : (yJ1_addEntry).cls ≠ "java/lang/invoke/MethodHandle" ∧ (yJ1_addEntry).cls ≠ "java/lang/invoke/VarHandle" ∧ (parseMethodDescriptor (yJ1_addEntry).desc).map (fun d => d.parameters.length) = some 4 := by decide +kernel
theorem met_J1_addEntry (K : ZK) (this : Nat) (a1 : Option Nat) (a2 : Option Nat) (a3 : Option Nat) (a4 : Int32) : zMeth K yJ1_addEntry (zws yJ1_addEntry cJ1_addEntry 6 none) 3 144 [.ref this, va_rf a1, va_rf a2, va_rf a3, .int a4] encV (s_J1_addEntry K this a1 a2 a3 a4) :=
  fun l G hl hK => zmet_of hl hK (by decide +kernel) rfl rfl (by simp [zsl_nil, zsl_rf, zsl_r, zsl_i, zsl_j, zsl_f, zsl_d]) (fun x hE => by simp only [zla_nil, zla_rf, zla_r, zla_i, zla_j, zla_f, zla_d, Nat.reduceAdd]; exact sm_J1_addEntry hE this a1 a2 a3 a4)
theorem sm_J1_put_2_J187 {x : ZX (Option Nat)} {K : ZK} (hE : zE x K cJ1_put_2 RJ1 "put" 10 6 207 encR (Option.some (Jvm.ClassFile.FieldType.object "java/lang/Object")) []) (x2 : Option Nat) (x4 : Option Nat) (x9 : Option Nat) : zS x 187 [(2, va_rf x2), (4, va_rf x4), (9, va_rf x9)] [] (s_J1_put_2_J187 K x2 x4 x9) := by
  unfold s_J1_put_2_J187
  refine zs_aload hE 1 rfl dJ1_put_2_187 ?_
  refine zs_aload_n hE 0 rfl rfl dJ1_put_2_189 ?_
  refine zs_putR hE (ci := 12) (k := 1) rfl (by decide) in_J33 (Or.inl q1675) (Or.inl rfl) (Or.inl rfl) (fun h => nomatch h) (tyJ33_ok 1 (by decide)) (Or.inl ⟨_, rfl⟩) dJ1_put_2_190 ?_
  refine zs_aload hE 2 rfl dJ1_put_2_193 ?_
  exact zs_aret hE (Or.inl ⟨_, rfl⟩) dJ1_put_2_195
theorem sm_J1_put_2_J216 {x : ZX (Option Nat)} {K : ZK} (hE : zE x K cJ1_put_2 RJ1 "put" 10 6 207 encR (Option.some (Jvm.ClassFile.FieldType.object "java/lang/Object")) []) (t0 : Int32) (t1 : Option Nat) (t2 : Option Nat) (t3 : Option Nat) (t4 : Nat) : zS x 216 [] [.int t0, va_rf t1, va_rf t2, va_rf t3, va_rf (some t4)] (s_J1_put_2_J216 K t0 t1 t2 t3 t4) := by
  unfold s_J1_put_2_J216
  refine zs_callV hE (As := [va_rf t3, va_rf t2, va_rf t1, .int t0]) (encA := encV) (ci := 0) rfl (fun y0 => met_J1_addEntry K y0 t3 t2 t1 t0) q1698 q98 q1695 q1697 (zq qs6) hd_J1_addEntry (by decide) (by decide) rfl (by simp [zcat_rf, zcat_i, zcat_j, zcat_f, zcat_d]) (fun z hz => by cases hz) dJ1_put_2_216 (fun _ => ?_)
  show zS _ 219 _ [] _
  refine zs_null hE dJ1_put_2_219 ?_
  exact zs_aret hE (Or.inl ⟨_, rfl⟩) dJ1_put_2_220
theorem sm_J1_put_2_J201 {x : ZX (Option Nat)} {K : ZK} (hE : zE x K cJ1_put_2 RJ1 "put" 10 6 207 encR (Option.some (Jvm.ClassFile.FieldType.object "java/lang/Object")) []) (x0 : Nat) (x1 : Option Nat) (x2 : Option Nat) (x5 : Int32) (x6 : Option Nat) : zS x 201 [(0, va_rf (some x0)), (1, va_rf x1), (2, va_rf x2), (5, .int x5), (6, va_rf x6)] [] (s_J1_put_2_J201 K x0 x1 x2 x5 x6) := by
  unfold s_J1_put_2_J201
  refine zs_aload_n hE 0 rfl rfl dJ1_put_2_201 ?_
  refine zs_aload_n hE 1 rfl rfl dJ1_put_2_202 ?_
  refine zs_aload_n hE 2 rfl rfl dJ1_put_2_203 ?_
  refine zs_aload hE 4 rfl dJ1_put_2_204 ?_
  refine zs_iload hE 3 rfl dJ1_put_2_206 ?_
  refine zs_if_ge hE 215 (by decide) dJ1_put_2_208 ?_ ?_
  · refine zs_iconst hE (v := (0 : Int32)) (by decide) dJ1_put_2_215 ?_
    refine zs_sub [] rfl ?_
    exact sm_J1_put_2_J216 hE (0 : Int32) x6 x2 x1 x0
  · refine zs_iconst hE (v := (1 : Int32)) (by decide) dJ1_put_2_211 ?_
    refine zs_goto hE 216 (by decide) dJ1_put_2_212 ?_
    refine zs_sub [] rfl ?_
    exact sm_J1_put_2_J216 hE (1 : Int32) x6 x2 x1 x0
theorem sm_J1_put_2_J196 {x : ZX (Option Nat)} {K : ZK} (hE : zE x K cJ1_put_2 RJ1 "put" 10 6 207 encR (Option.some (Jvm.ClassFile.FieldType.object "java/lang/Object")) []) (x0 : Nat) (x1 : Option Nat) (x2 : Option Nat) (x3 : Int32) (x4 : Option Nat) (x5 : Int32) (x6 : Option Nat) (x8 : Option Nat) (self123 : (Option Nat) → ZP (Option Nat)) (hs123 : ∀ v : Option Nat, zS x 123 [(0, va_rf (some x0)), (1, va_rf x1), (2, va_rf x2), (3, .int x3), (4, va_rf v), (8, va_rf x8)] [] (self123 v)) : zS x 196 [(0, va_rf (some x0)), (1, va_rf x1), (2, va_rf x2), (3, .int x3), (4, va_rf x4), (5, .int x5), (6, va_rf x6), (8, va_rf x8)] [] (s_J1_put_2_J196 K x0 x1 x2 x3 x4 x5 x6 x8 self123) := by
  unfold s_J1_put_2_J196
  refine zs_aload hE 4 rfl dJ1_put_2_196 ?_
  refine zs_ifnonnull hE 123 (by decide) dJ1_put_2_198 ?_ ?_
  · refine zs_sub [0, 1, 2, 5, 6] rfl ?_
    exact sm_J1_put_2_J201 hE x0 x1 x2 x5 x6
  · refine zs_sub [0, 1, 2, 3, 4, 7] rfl ?_
    exact hs123 x4
theorem sm_J1_put_2_B123 {x : ZX (Option Nat)} {K : ZK} (hE : zE x K cJ1_put_2 RJ1 "put" 10 6 207 encR (Option.some (Jvm.ClassFile.FieldType.object "java/lang/Object")) []) (x0 : Nat) (x1 : Option Nat) (x2 : Option Nat) (x3 : Int32) (x8 : Option Nat) (self123 : (Option Nat) → ZP (Option Nat)) (hs123 : ∀ v : Option Nat, zS x 123 [(0, va_rf (some x0)), (1, va_rf x1), (2, va_rf x2), (3, .int x3), (4, va_rf v), (8, va_rf x8)] [] (self123 v)) (x4 : Option Nat) : zS x 123 [(0, va_rf (some x0)), (1, va_rf x1), (2, va_rf x2), (3, .int x3), (4, va_rf x4), (8, va_rf x8)] [] (s_J1_put_2_B123 K x0 x1 x2 x3 x8 self123 x4) := by
  unfold s_J1_put_2_B123
  refine zs_aload hE 4 rfl dJ1_put_2_123 ?_
  refine zs_astore hE (i := 6) (by decide) (trivial) (lv' := [(0, va_rf (some x0)), (1, va_rf x1), (2, va_rf x2), (3, .int x3), (4, va_rf x4), (8, va_rf x8)]) rfl dJ1_put_2_125 ?_
  refine zs_aload hE 6 rfl dJ1_put_2_127 ?_
  refine zs_aload hE 5 rfl dJ1_put_2_129 ?_
  refine zs_getR hE (ci := 12) (k := 0) rfl (by decide) in_J33 (Or.inl q1672) (Or.inl rfl) dJ1_put_2_131 (fun v4 => ?_)
  refine zs_callFK hE (xx := ⟨"java/lang/Comparable", "compareTo", "(Ljava/lang/Object;)I"⟩) (As := [va_rf v4]) (encA := encI) (ci := 2) rfl (fun y0 => met_J13_compareTo K y0 v4) q535 q112 q527 (List.mem_of_getElem? (i := 9) rfl) q533 q531 hdx_h0 (by decide) (by decide) rfl (by simp [zcat_rf, zcat_i, zcat_j, zcat_f, zcat_d]) (fun z hz => by cases hz) dJ1_put_2_134 (fun r5 => ?_)
  show zS _ 139 _ [.int r5] _
  refine zs_istore hE (i := 5) (by decide) (zcat_rf x4) (lv' := [(6, va_rf x4), (0, va_rf (some x0)), (1, va_rf x1), (2, va_rf x2), (3, .int x3), (4, va_rf x4), (8, va_rf x8)]) rfl dJ1_put_2_139 ?_
  refine zs_iload hE 0 rfl dJ1_put_2_141 ?_
  refine zs_if_ge hE 156 (by decide) dJ1_put_2_143 ?_ ?_
  · refine zs_iload hE 0 rfl dJ1_put_2_156 ?_
    refine zs_if_le hE 171 (by decide) dJ1_put_2_158 ?_ ?_
    · refine zs_aload hE 6 rfl dJ1_put_2_171 ?_
      refine zs_getR hE (ci := 12) (k := 1) rfl (by decide) in_J33 (Or.inl q1675) (Or.inl rfl) dJ1_put_2_173 (fun v6 => ?_)
      refine zs_astore hE (i := 9) (by decide) (zcat_rf x8) (lv' := [(5, .int r5), (6, va_rf x4), (0, va_rf (some x0)), (1, va_rf x1), (2, va_rf x2), (3, .int x3), (4, va_rf x4), (8, va_rf x8)]) rfl dJ1_put_2_176 ?_
      refine zs_iload_n hE 6 rfl rfl dJ1_put_2_178 ?_
      refine zs_if_ne hE 187 (by decide) dJ1_put_2_179 ?_ ?_
      · refine zs_aload hE 0 rfl dJ1_put_2_182 ?_
        refine zs_ifnonnull hE 193 (by decide) dJ1_put_2_184 ?_ ?_
        · refine zs_sub [5, 7, 0] rfl ?_
          exact sm_J1_put_2_J187 hE x2 x4 v6
        · refine zs_aload hE 0 rfl dJ1_put_2_193 ?_
          exact zs_aret hE (Or.inl ⟨_, rfl⟩) dJ1_put_2_195
      · refine zs_sub [5, 7, 0] rfl ?_
        exact sm_J1_put_2_J187 hE x2 x4 v6
    · refine zs_aload hE 6 rfl dJ1_put_2_161 ?_
      refine zs_getR hE (ci := 12) (k := 3) rfl (by decide) in_J33 (Or.inl q1677) (Or.inl rfl) dJ1_put_2_163 (fun v7 => ?_)
      refine zs_astore hE (i := 4) (by decide) (rfl) (lv' := [(5, .int r5), (6, va_rf x4), (0, va_rf (some x0)), (1, va_rf x1), (2, va_rf x2), (3, .int x3), (8, va_rf x8)]) rfl dJ1_put_2_166 ?_
      refine zs_goto hE 196 (by decide) dJ1_put_2_168 ?_
      refine zs_sub [3, 4, 5, 6, 0, 1, 2, 7] rfl ?_
      exact sm_J1_put_2_J196 hE x0 x1 x2 x3 v7 r5 x4 x8 self123 hs123
  · refine zs_aload hE 6 rfl dJ1_put_2_146 ?_
    refine zs_getR hE (ci := 12) (k := 2) rfl (by decide) in_J33 (Or.inl q1676) (Or.inl rfl) dJ1_put_2_148 (fun v8 => ?_)
    refine zs_astore hE (i := 4) (by decide) (rfl) (lv' := [(5, .int r5), (6, va_rf x4), (0, va_rf (some x0)), (1, va_rf x1), (2, va_rf x2), (3, .int x3), (8, va_rf x8)]) rfl dJ1_put_2_151 ?_
    refine zs_goto hE 196 (by decide) dJ1_put_2_153 ?_
    refine zs_sub [3, 4, 5, 6, 0, 1, 2, 7] rfl ?_
    exact sm_J1_put_2_J196 hE x0 x1 x2 x3 v8 r5 x4 x8 self123 hs123
theorem sm_J1_put_2_L123 {x : ZX (Option Nat)} {K : ZK} (hE : zE x K cJ1_put_2 RJ1 "put" 10 6 207 encR (Option.some (Jvm.ClassFile.FieldType.object "java/lang/Object")) []) (x0 : Nat) (x1 : Option Nat) (x2 : Option Nat) (x3 : Int32) (x8 : Option Nat) (v : Option Nat) : zS x 123 [(0, va_rf (some x0)), (1, va_rf x1), (2, va_rf x2), (3, .int x3), (4, va_rf v), (8, va_rf x8)] [] (s_J1_put_2_L123 K x0 x1 x2 x3 x8 v) := by
  unfold s_J1_put_2_L123
  exact zs_loop (lvf := fun v => [(0, va_rf (some x0)), (1, va_rf x1), (2, va_rf x2), (3, .int x3), (4, va_rf v), (8, va_rf x8)]) (fun self123 hs123 v => sm_J1_put_2_B123 hE x0 x1 x2 x3 x8 self123 hs123 v) v
theorem sm_J1_put_2_B30 {x : ZX (Option Nat)} {K : ZK} (hE : zE x K cJ1_put_2 RJ1 "put" 10 6 207 encR (Option.some (Jvm.ClassFile.FieldType.object "java/lang/Object")) []) (x0 : Nat) (x1 : Option Nat) (x2 : Option Nat) (x3 : Int32) (x7 : Option Nat) (self30 : (Option Nat) → ZP (Option Nat)) (hs30 : ∀ v : Option Nat, zS x 30 [(0, va_rf (some x0)), (1, va_rf x1), (2, va_rf x2), (3, .int x3), (4, va_rf v), (7, va_rf x7)] [] (self30 v)) (x4 : Option Nat) : zS x 30 [(0, va_rf (some x0)), (1, va_rf x1), (2, va_rf x2), (3, .int x3), (4, va_rf x4), (7, va_rf x7)] [] (s_J1_put_2_B30 K x0 x1 x2 x3 x7 self30 x4) := by
  unfold s_J1_put_2_B30
  refine zs_aload hE 4 rfl dJ1_put_2_30 ?_
  refine zs_astore hE (i := 6) (by decide) (trivial) (lv' := [(0, va_rf (some x0)), (1, va_rf x1), (2, va_rf x2), (3, .int x3), (4, va_rf x4), (7, va_rf x7)]) rfl dJ1_put_2_32 ?_
  refine zs_aload hE 6 rfl dJ1_put_2_34 ?_
  refine zs_aload_n hE 2 rfl rfl dJ1_put_2_36 ?_
  refine zs_aload hE 5 rfl dJ1_put_2_37 ?_
  refine zs_getR hE (ci := 12) (k := 0) rfl (by decide) in_J33 (Or.inl q1672) (Or.inl rfl) dJ1_put_2_39 (fun v9 => ?_)
  exact zs_bad
theorem sm_J1_put_2_L30 {x : ZX (Option Nat)} {K : ZK} (hE : zE x K cJ1_put_2 RJ1 "put" 10 6 207 encR (Option.some (Jvm.ClassFile.FieldType.object "java/lang/Object")) []) (x0 : Nat) (x1 : Option Nat) (x2 : Option Nat) (x3 : Int32) (x7 : Option Nat) (v : Option Nat) : zS x 30 [(0, va_rf (some x0)), (1, va_rf x1), (2, va_rf x2), (3, .int x3), (4, va_rf v), (7, va_rf x7)] [] (s_J1_put_2_L30 K x0 x1 x2 x3 x7 v) := by
  unfold s_J1_put_2_L30
  exact zs_loop (lvf := fun v => [(0, va_rf (some x0)), (1, va_rf x1), (2, va_rf x2), (3, .int x3), (4, va_rf v), (7, va_rf x7)]) (fun self30 hs30 v => sm_J1_put_2_B30 hE x0 x1 x2 x3 x7 self30 hs30 v) v
theorem sm_J1_put_2 {x : ZX (Option Nat)} {K : ZK} (hE : zE x K cJ1_put_2 RJ1 "put" 10 6 207 encR (Option.some (Jvm.ClassFile.FieldType.object "java/lang/Object")) []) (this : Nat) (a1 : Option Nat) (a2 : Option Nat) (a3 : Int32) : zS x 0 [(0, va_rf (some this)), (1, va_rf a1), (2, va_rf a2), (3, .int a3)] [] (s_J1_put_2 K this a1 a2 a3) := by
  unfold s_J1_put_2
  refine zs_aload_n hE 0 rfl rfl dJ1_put_2_0 ?_
  refine zs_getR hE (ci := 0) (k := 3) rfl (by decide) in_J1 (Or.inl q187) (Or.inl rfl) dJ1_put_2_1 (fun v1 => ?_)
  refine zs_astore hE (i := 4) (by decide) (rfl) (lv' := [(0, va_rf (some this)), (1, va_rf a1), (2, va_rf a2), (3, .int a3)]) rfl dJ1_put_2_4 ?_
  refine zs_aload hE 0 rfl dJ1_put_2_6 ?_
  refine zs_ifnonnull hE 19 (by decide) dJ1_put_2_8 ?_ ?_
  · refine zs_aload_n hE 1 rfl rfl dJ1_put_2_11 ?_
    refine zs_aload_n hE 2 rfl rfl dJ1_put_2_12 ?_
    refine zs_aload_n hE 3 rfl rfl dJ1_put_2_13 ?_
    refine zs_callV hE (As := [va_rf a1, va_rf a2]) (encA := encV) (ci := 0) rfl (fun y0 => met_J1_addEntryToEmptyMap K y0 a1 a2) q1662 q98 q1659 q1661 (zq qs5) hd_J1_addEntryToEmptyMap (by decide) (by decide) rfl (by simp [zcat_rf, zcat_i, zcat_j, zcat_f, zcat_d]) (fun z hz => by cases hz) dJ1_put_2_14 (fun _ => ?_)
    show zS _ 17 _ [] _
    refine zs_null hE dJ1_put_2_17 ?_
    exact zs_aret hE (Or.inl ⟨_, rfl⟩) dJ1_put_2_18
  · refine zs_aload_n hE 1 rfl rfl dJ1_put_2_19 ?_
    refine zs_getR hE (ci := 0) (k := 2) rfl (by decide) in_J1 (Or.inl q186) (Or.inl rfl) dJ1_put_2_20 (fun v2 => ?_)
    refine zs_astore hE (i := 7) (by decide) (trivial) (lv' := [(4, va_rf v1), (0, va_rf (some this)), (1, va_rf a1), (2, va_rf a2), (3, .int a3)]) rfl dJ1_put_2_23 ?_
    refine zs_aload hE 0 rfl dJ1_put_2_25 ?_
    refine zs_ifnull hE 112 (by decide) dJ1_put_2_27 ?_ ?_
    · refine zs_aload_n hE 3 rfl rfl dJ1_put_2_112 ?_
      refine zs_callS hE (As := [va_rf a1]) (encA := encR) (met_J14_requireNonNull K a1) q1026 q114 q1024 q1025 hd_J14_requireNonNull (by decide) (by decide) rfl (by simp [zcat_rf, zcat_i, zcat_j, zcat_f, zcat_d]) (fun z hz => by cases hz) dJ1_put_2_113 (fun r3 => ?_)
      show zS _ 116 _ [va_rf r3] _
      refine zs_pop hE (zcat_rf _) dJ1_put_2_116 ?_
      refine zs_aload_n hE 3 rfl rfl dJ1_put_2_117 ?_
      refine zs_castK hE q525 (zc1 rfl (Or.inr (zn q530 rfl))) dJ1_put_2_118 ?_
      refine zs_astore hE (i := 8) (by decide) (zcat_rf v2) (lv' := [(7, va_rf v2), (4, va_rf v1), (0, va_rf (some this)), (1, va_rf a1), (2, va_rf a2), (3, .int a3)]) rfl dJ1_put_2_121 ?_
      refine zs_sub [3, 4, 5, 6, 2, 0] rfl ?_
      exact sm_J1_put_2_L123 hE this a1 a2 a3 a1 v1
    · refine zs_sub [2, 3, 4, 5, 1, 0] rfl ?_
      exact sm_J1_put_2_L30 hE this a1 a2 a3 v2 v1
theorem hd_J1_put_2 : (yJ1_put_2).cls ≠ "java/lang/invoke/MethodHandle" ∧ (yJ1_put_2).cls ≠ "java/lang/invoke/VarHandle" ∧ (parseMethodDescriptor (yJ1_put_2).desc).map (fun d => d.parameters.length) = some 3 := by decide +kernel
theorem met_J1_put_2 (K : ZK) (this : Nat) (a1 : Option Nat) (a2 : Option Nat) (a3 : Int32) : zMeth K yJ1_put_2 (zws yJ1_put_2 cJ1_put_2 10 (Option.some (Jvm.ClassFile.FieldType.object "java/lang/Object"))) 6 207 [.ref this, va_rf a1, va_rf a2, .int a3] encR (s_J1_put_2 K this a1 a2 a3) :=
  fun l G hl hK => zmet_of hl hK (by decide +kernel) rfl rfl (by simp [zsl_nil, zsl_rf, zsl_r, zsl_i, zsl_j, zsl_f, zsl_d]) (fun x hE => by simp only [zla_nil, zla_rf, zla_r, zla_i, zla_j, zla_f, zla_d, Nat.reduceAdd]; exact sm_J1_put_2 hE this a1 a2 a3)
theorem sm_J1_put {x : ZX (Option Nat)} {K : ZK} (hE : zE x K cJ1_put RJ1 "put" 3 7 236 encR (Option.some (Jvm.ClassFile.FieldType.object "java/lang/Object")) []) (this : Nat) (a1 : Option Nat) (a2 : Option Nat) : zS x 0 [(0, va_rf (some this)), (1, va_rf a1), (2, va_rf a2)] [] (s_J1_put K this a1 a2) := by
  unfold s_J1_put
  refine zs_aload_n hE 0 rfl rfl dJ1_put_0 ?_
  refine zs_aload_n hE 1 rfl rfl dJ1_put_1 ?_
  refine zs_aload_n hE 2 rfl rfl dJ1_put_2 ?_
  refine zs_iconst hE (v := (1 : Int32)) (by decide) dJ1_put_3 ?_
  refine zs_callV hE (As := [va_rf a1, va_rf a2, .int (1 : Int32)]) (encA := encR) (ci := 0) rfl (fun y0 => met_J1_put_2 K y0 a1 a2 (1 : Int32)) q1658 q98 q1655 q1657 (zq qs4) hd_J1_put_2 (by decide) (by decide) rfl (by simp [zcat_rf, zcat_i, zcat_j, zcat_f, zcat_d]) (fun z hz => by cases hz) dJ1_put_4 (fun r1 => ?_)
  show zS _ 7 _ [va_rf r1] _
  exact zs_aret hE (Or.inl ⟨_, rfl⟩) dJ1_put_7
theorem hd_J1_put : (yJ1_put).cls ≠ "java/lang/invoke/MethodHandle" ∧ (yJ1_put).cls ≠ "java/lang/invoke/VarHandle" ∧ (parseMethodDescriptor (yJ1_put).desc).map (fun d => d.parameters.length) = some 2 := by decide +kernel
theorem met_J1_put (K : ZK) (this : Nat) (a1 : Option Nat) (a2 : Option Nat) : zMeth K yJ1_put (zws yJ1_put cJ1_put 3 (Option.some (Jvm.ClassFile.FieldType.object "java/lang/Object"))) 7 236 [.ref this, va_rf a1, va_rf a2] encR (s_J1_put K this a1 a2) :=
  fun l G hl hK => zmet_of hl hK (by decide +kernel) rfl rfl (by simp [zsl_nil, zsl_rf, zsl_r, zsl_i, zsl_j, zsl_f, zsl_d]) (fun x hE => by simp only [zla_nil, zla_rf, zla_r, zla_i, zla_j, zla_f, zla_d, Nat.reduceAdd]; exact sm_J1_put hE this a1 a2)
theorem sm_X2_copy_J113 {x : ZX (Option Nat)} {K : ZK} (hE : zE x K cX2_copy RX2 "copy" 4 9 275 encR (Option.some (Jvm.ClassFile.FieldType.object "TokenRing$State")) []) (x0 : Nat) (x1 : Nat) (t0 : Option Nat) (t1 : Nat) : zS x 113 [(0, va_rf (some x0)), (1, va_rf (some x1))] [va_rf t0, va_rf (some t1)] (s_X2_copy_J113 K x0 x1 t0 t1) := by
  unfold s_X2_copy_J113
  refine zs_putR hE (ci := 34) (k := 5) rfl (by decide) in_X2 (Or.inl q230) (Or.inl rfl) (Or.inl rfl) (fun h => nomatch h) (tyX2_ok 5 (by decide)) (Or.inl ⟨_, rfl⟩) dX2_copy_113 ?_
  refine zs_aload_n hE 1 rfl rfl dX2_copy_116 ?_
  refine zs_aload_n hE 0 rfl rfl dX2_copy_117 ?_
  refine zs_getI hE (ci := 34) (k := 6) rfl (by decide) in_X2 (Or.inl q233) (Or.inl rfl) dX2_copy_118 (fun v11 => ?_)
  refine zs_putI hE (ci := 34) (k := 6) rfl (by decide) in_X2 (Or.inl q233) (Or.inl rfl) (Or.inl rfl) (fun h => nomatch h) rfl dX2_copy_121 ?_
  refine zs_aload_n hE 1 rfl rfl dX2_copy_124 ?_
  refine zs_aload_n hE 0 rfl rfl dX2_copy_125 ?_
  refine zs_getI hE (ci := 34) (k := 7) rfl (by decide) in_X2 (Or.inl q237) (Or.inl rfl) dX2_copy_126 (fun v12 => ?_)
  refine zs_putI hE (ci := 34) (k := 7) rfl (by decide) in_X2 (Or.inl q237) (Or.inl rfl) (Or.inl rfl) (fun h => nomatch h) rfl dX2_copy_129 ?_
  refine zs_aload_n hE 1 rfl rfl dX2_copy_132 ?_
  refine zs_aload_n hE 0 rfl rfl dX2_copy_133 ?_
  refine zs_getI hE (ci := 34) (k := 8) rfl (by decide) in_X2 (Or.inl q239) (Or.inl rfl) dX2_copy_134 (fun v13 => ?_)
  refine zs_putI hE (ci := 34) (k := 8) rfl (by decide) in_X2 (Or.inl q239) (Or.inl rfl) (Or.inl rfl) (fun h => nomatch h) rfl dX2_copy_137 ?_
  refine zs_aload_n hE 1 rfl rfl dX2_copy_140 ?_
  refine zs_aload_n hE 0 rfl rfl dX2_copy_141 ?_
  refine zs_getI hE (ci := 34) (k := 9) rfl (by decide) in_X2 (Or.inl q242) (Or.inl rfl) dX2_copy_142 (fun v14 => ?_)
  refine zs_putI hE (ci := 34) (k := 9) rfl (by decide) in_X2 (Or.inl q242) (Or.inl rfl) (Or.inl rfl) (fun h => nomatch h) rfl dX2_copy_145 ?_
  refine zs_aload_n hE 1 rfl rfl dX2_copy_148 ?_
  refine zs_aload_n hE 0 rfl rfl dX2_copy_149 ?_
  refine zs_getI hE (ci := 34) (k := 10) rfl (by decide) in_X2 (Or.inl q244) (Or.inl rfl) dX2_copy_150 (fun v15 => ?_)
  refine zs_putI hE (ci := 34) (k := 10) rfl (by decide) in_X2 (Or.inl q244) (Or.inl rfl) (Or.inl rfl) (fun h => nomatch h) rfl dX2_copy_153 ?_
  refine zs_aload_n hE 1 rfl rfl dX2_copy_156 ?_
  refine zs_aload_n hE 0 rfl rfl dX2_copy_157 ?_
  refine zs_getI hE (ci := 34) (k := 11) rfl (by decide) in_X2 (Or.inl q247) (Or.inl rfl) dX2_copy_158 (fun v16 => ?_)
  refine zs_putI hE (ci := 34) (k := 11) rfl (by decide) in_X2 (Or.inl q247) (Or.inl rfl) (Or.inl rfl) (fun h => nomatch h) rfl dX2_copy_161 ?_
  refine zs_aload_n hE 1 rfl rfl dX2_copy_164 ?_
  refine zs_aload_n hE 0 rfl rfl dX2_copy_165 ?_
  refine zs_getI hE (ci := 34) (k := 12) rfl (by decide) in_X2 (Or.inl q250) (Or.inl rfl) dX2_copy_166 (fun v17 => ?_)
  refine zs_putI hE (ci := 34) (k := 12) rfl (by decide) in_X2 (Or.inl q250) (Or.inl rfl) (Or.inl rfl) (fun h => nomatch h) rfl dX2_copy_169 ?_
  refine zs_aload_n hE 1 rfl rfl dX2_copy_172 ?_
  refine zs_aload_n hE 0 rfl rfl dX2_copy_173 ?_
  refine zs_getI hE (ci := 34) (k := 13) rfl (by decide) in_X2 (Or.inl q253) (Or.inl rfl) dX2_copy_174 (fun v18 => ?_)
  refine zs_putI hE (ci := 34) (k := 13) rfl (by decide) in_X2 (Or.inl q253) (Or.inl rfl) (Or.inl rfl) (fun h => nomatch h) rfl dX2_copy_177 ?_
  refine zs_aload_n hE 1 rfl rfl dX2_copy_180 ?_
  refine zs_aload_n hE 0 rfl rfl dX2_copy_181 ?_
  refine zs_getI hE (ci := 34) (k := 14) rfl (by decide) in_X2 (Or.inl q256) (Or.inl rfl) dX2_copy_182 (fun v19 => ?_)
  refine zs_putI hE (ci := 34) (k := 14) rfl (by decide) in_X2 (Or.inl q256) (Or.inl rfl) (Or.inl rfl) (fun h => nomatch h) rfl dX2_copy_185 ?_
  refine zs_aload_n hE 1 rfl rfl dX2_copy_188 ?_
  refine zs_aload_n hE 0 rfl rfl dX2_copy_189 ?_
  refine zs_getI hE (ci := 34) (k := 15) rfl (by decide) in_X2 (Or.inl q258) (Or.inl rfl) dX2_copy_190 (fun v20 => ?_)
  refine zs_putI hE (ci := 34) (k := 15) rfl (by decide) in_X2 (Or.inl q258) (Or.inl rfl) (Or.inl rfl) (fun h => nomatch h) rfl dX2_copy_193 ?_
  refine zs_aload_n hE 1 rfl rfl dX2_copy_196 ?_
  refine zs_aload_n hE 0 rfl rfl dX2_copy_197 ?_
  refine zs_getI hE (ci := 34) (k := 16) rfl (by decide) in_X2 (Or.inl q260) (Or.inl rfl) dX2_copy_198 (fun v21 => ?_)
  refine zs_putI hE (ci := 34) (k := 16) rfl (by decide) in_X2 (Or.inl q260) (Or.inl rfl) (Or.inl rfl) (fun h => nomatch h) rfl dX2_copy_201 ?_
  refine zs_aload_n hE 1 rfl rfl dX2_copy_204 ?_
  refine zs_aload_n hE 0 rfl rfl dX2_copy_205 ?_
  refine zs_getI hE (ci := 34) (k := 17) rfl (by decide) in_X2 (Or.inl q262) (Or.inl rfl) dX2_copy_206 (fun v22 => ?_)
  refine zs_putI hE (ci := 34) (k := 17) rfl (by decide) in_X2 (Or.inl q262) (Or.inl rfl) (Or.inl rfl) (fun h => nomatch h) rfl dX2_copy_209 ?_
  refine zs_aload_n hE 1 rfl rfl dX2_copy_212 ?_
  refine zs_aload_n hE 0 rfl rfl dX2_copy_213 ?_
  refine zs_getI hE (ci := 34) (k := 18) rfl (by decide) in_X2 (Or.inl q265) (Or.inl rfl) dX2_copy_214 (fun v23 => ?_)
  refine zs_putI hE (ci := 34) (k := 18) rfl (by decide) in_X2 (Or.inl q265) (Or.inl rfl) (Or.inl rfl) (fun h => nomatch h) rfl dX2_copy_217 ?_
  refine zs_aload_n hE 1 rfl rfl dX2_copy_220 ?_
  refine zs_aload_n hE 0 rfl rfl dX2_copy_221 ?_
  refine zs_getI hE (ci := 34) (k := 19) rfl (by decide) in_X2 (Or.inl q268) (Or.inl rfl) dX2_copy_222 (fun v24 => ?_)
  refine zs_putI hE (ci := 34) (k := 19) rfl (by decide) in_X2 (Or.inl q268) (Or.inl rfl) (Or.inl rfl) (fun h => nomatch h) rfl dX2_copy_225 ?_
  refine zs_aload_n hE 1 rfl rfl dX2_copy_228 ?_
  refine zs_aload_n hE 0 rfl rfl dX2_copy_229 ?_
  refine zs_getI hE (ci := 34) (k := 20) rfl (by decide) in_X2 (Or.inl q272) (Or.inl rfl) dX2_copy_230 (fun v25 => ?_)
  refine zs_putI hE (ci := 34) (k := 20) rfl (by decide) in_X2 (Or.inl q272) (Or.inl rfl) (Or.inl rfl) (fun h => nomatch h) rfl dX2_copy_233 ?_
  refine zs_aload_n hE 1 rfl rfl dX2_copy_236 ?_
  refine zs_aload_n hE 0 rfl rfl dX2_copy_237 ?_
  refine zs_getI hE (ci := 34) (k := 21) rfl (by decide) in_X2 (Or.inl q275) (Or.inl rfl) dX2_copy_238 (fun v26 => ?_)
  refine zs_putI hE (ci := 34) (k := 21) rfl (by decide) in_X2 (Or.inl q275) (Or.inl rfl) (Or.inl rfl) (fun h => nomatch h) rfl dX2_copy_241 ?_
  refine zs_aload_n hE 1 rfl rfl dX2_copy_244 ?_
  refine zs_aload_n hE 0 rfl rfl dX2_copy_245 ?_
  refine zs_getI hE (ci := 34) (k := 22) rfl (by decide) in_X2 (Or.inl q277) (Or.inl rfl) dX2_copy_246 (fun v27 => ?_)
  refine zs_putI hE (ci := 34) (k := 22) rfl (by decide) in_X2 (Or.inl q277) (Or.inl rfl) (Or.inl rfl) (fun h => nomatch h) rfl dX2_copy_249 ?_
  refine zs_aload_n hE 1 rfl rfl dX2_copy_252 ?_
  exact zs_aret hE (Or.inl ⟨_, rfl⟩) dX2_copy_253
theorem sm_X2_copy_B21 {x : ZX (Option Nat)} {K : ZK} (hE : zE x K cX2_copy RX2 "copy" 4 9 275 encR (Option.some (Jvm.ClassFile.FieldType.object "TokenRing$State")) []) (x0 : Nat) (x1 : Nat) (x2 : Option Nat) (self21 : Unit → ZP (Option Nat)) (hs21 : ∀ v : Unit, zS x 21 [(0, va_rf (some x0)), (1, va_rf (some x1)), (2, va_rf x2)] [] (self21 v)) : zS x 21 [(0, va_rf (some x0)), (1, va_rf (some x1)), (2, va_rf x2)] [] (s_X2_copy_B21 K x0 x1 x2 self21) := by
  unfold s_X2_copy_B21
  refine zs_aload_n hE 2 rfl rfl dX2_copy_21 ?_
  refine zs_callF hE (xx := ⟨"java/util/Iterator", "hasNext", "()Z"⟩) (As := []) (encA := encI) (ci := 8) rfl (fun y0 => met_J26_hasNext__J28 K y0) q875 q127 q845 (List.mem_of_getElem? (i := 1) rfl) q873 q883 hdx_h2 (by decide) (by decide) rfl (by simp [zcat_rf, zcat_i, zcat_j, zcat_f, zcat_d]) (fun z hz => by cases hz) dX2_copy_22 (fun r5 => ?_)
  show zS _ 27 _ [.int r5] _
  refine zs_if_eq hE 62 (by decide) dX2_copy_27 ?_ ?_
  · refine zs_aload_n hE 1 rfl rfl dX2_copy_62 ?_
    refine zs_aload_n hE 0 rfl rfl dX2_copy_63 ?_
    refine zs_getI hE (ci := 34) (k := 1) rfl (by decide) in_X2 (Or.inl q219) (Or.inl rfl) dX2_copy_64 (fun v6 => ?_)
    refine zs_putI hE (ci := 34) (k := 1) rfl (by decide) in_X2 (Or.inl q219) (Or.inl rfl) (Or.inl rfl) (fun h => nomatch h) rfl dX2_copy_67 ?_
    refine zs_aload_n hE 1 rfl rfl dX2_copy_70 ?_
    refine zs_aload_n hE 0 rfl rfl dX2_copy_71 ?_
    refine zs_getI hE (ci := 34) (k := 2) rfl (by decide) in_X2 (Or.inl q222) (Or.inl rfl) dX2_copy_72 (fun v7 => ?_)
    refine zs_putI hE (ci := 34) (k := 2) rfl (by decide) in_X2 (Or.inl q222) (Or.inl rfl) (Or.inl rfl) (fun h => nomatch h) rfl dX2_copy_75 ?_
    refine zs_aload_n hE 1 rfl rfl dX2_copy_78 ?_
    refine zs_aload_n hE 0 rfl rfl dX2_copy_79 ?_
    refine zs_getI hE (ci := 34) (k := 3) rfl (by decide) in_X2 (Or.inl q225) (Or.inl rfl) dX2_copy_80 (fun v8 => ?_)
    refine zs_putI hE (ci := 34) (k := 3) rfl (by decide) in_X2 (Or.inl q225) (Or.inl rfl) (Or.inl rfl) (fun h => nomatch h) rfl dX2_copy_83 ?_
    refine zs_aload_n hE 1 rfl rfl dX2_copy_86 ?_
    refine zs_aload_n hE 0 rfl rfl dX2_copy_87 ?_
    refine zs_getI hE (ci := 34) (k := 4) rfl (by decide) in_X2 (Or.inl q228) (Or.inl rfl) dX2_copy_88 (fun v9 => ?_)
    refine zs_putI hE (ci := 34) (k := 4) rfl (by decide) in_X2 (Or.inl q228) (Or.inl rfl) (Or.inl rfl) (fun h => nomatch h) rfl dX2_copy_91 ?_
    refine zs_aload_n hE 1 rfl rfl dX2_copy_94 ?_
    refine zs_aload_n hE 0 rfl rfl dX2_copy_95 ?_
    refine zs_getR hE (ci := 34) (k := 5) rfl (by decide) in_X2 (Or.inl q230) (Or.inl rfl) dX2_copy_96 (fun v10 => ?_)
    refine zs_ifnonnull hE 106 (by decide) dX2_copy_99 ?_ ?_
    · refine zs_null hE dX2_copy_102 ?_
      refine zs_goto hE 113 (by decide) dX2_copy_103 ?_
      refine zs_sub [0, 1] rfl ?_
      exact sm_X2_copy_J113 hE x0 x1 none x1
    · refine zs_aload_n hE 0 rfl rfl dX2_copy_106 ?_
      refine zs_getR hE (ci := 34) (k := 5) rfl (by decide) in_X2 (Or.inl q230) (Or.inl rfl) dX2_copy_107 (fun v28 => ?_)
      refine zs_callV hE (As := []) (encA := encR) (ci := 38) rfl (fun y0 => met_X6_copy K y0) q1729 q137 q1726 q1727 (zq q1728) hd_X6_copy (by decide) (by decide) rfl (by simp [zcat_rf, zcat_i, zcat_j, zcat_f, zcat_d]) (fun z hz => by cases hz) dX2_copy_110 (fun r29 => ?_)
      show zS _ 113 _ [va_rf r29, va_rf (some x1)] _
      refine zs_sub [0, 1] rfl ?_
      exact sm_X2_copy_J113 hE x0 x1 r29 x1
  · refine zs_aload_n hE 2 rfl rfl dX2_copy_30 ?_
    refine zs_callF hE (xx := ⟨"java/util/Iterator", "next", "()Ljava/lang/Object;"⟩) (As := []) (encA := encR) (ci := 8) rfl (fun y0 => met_J28_next K y0) q1094 q129 q886 (List.mem_of_getElem? (i := 2) rfl) q1092 q1090 hdx_h4 (by decide) (by decide) rfl (by simp [zcat_rf, zcat_i, zcat_j, zcat_f, zcat_d]) (fun z hz => by cases hz) dX2_copy_31 (fun r30 => ?_)
    show zS _ 36 _ [va_rf r30] _
    refine zs_cast hE q1098 (zc1 rfl (Or.inl rfl)) dX2_copy_36 ?_
    refine zs_astore_n hE (i := 3) (q := 3) rfl (by decide) (zcat_rf x2) (lv' := [(0, va_rf (some x0)), (1, va_rf (some x1)), (2, va_rf x2)]) rfl dX2_copy_39 ?_
    refine zs_aload_n hE 2 rfl rfl dX2_copy_40 ?_
    refine zs_getR hE (ci := 34) (k := 0) rfl (by decide) in_X2 (Or.inl q215) (Or.inl rfl) dX2_copy_41 (fun v31 => ?_)
    refine zs_aload_n hE 0 rfl rfl dX2_copy_44 ?_
    refine zs_getI hE (ci := 37) (k := 0) rfl (by decide) in_X5 (Or.inr ⟨_, zn q1547 rfl⟩) (Or.inl rfl) dX2_copy_45 (fun v32 => ?_)
    refine zs_callS hE (As := [.int v32]) (encA := encR) (met_J13_valueOf K v32) q904 q112 q902 q903 hd_J13_valueOf (by decide) (by decide) rfl (by simp [zcat_rf, zcat_i, zcat_j, zcat_f, zcat_d]) (fun z hz => by cases hz) dX2_copy_48 (fun r33 => ?_)
    show zS _ 51 _ [va_rf r33, va_rf v31] _
    refine zs_aload_n hE 0 rfl rfl dX2_copy_51 ?_
    refine zs_callV hE (As := []) (encA := encR) (ci := 37) rfl (fun y0 => met_X5_copy K y0) q1513 q131 q1510 q1511 (zq q1512) hd_X5_copy (by decide) (by decide) rfl (by simp [zcat_rf, zcat_i, zcat_j, zcat_f, zcat_d]) (fun z hz => by cases hz) dX2_copy_52 (fun r34 => ?_)
    show zS _ 55 _ [va_rf r34, va_rf r33, va_rf v31] _
    refine zs_callV hE (As := [va_rf r33, va_rf r34]) (encA := encR) (ci := 0) rfl (fun y0 => met_J1_put K y0 r33 r34) q1654 q98 q1651 q1652 (zq q1653) hd_J1_put (by decide) (by decide) rfl (by simp [zcat_rf, zcat_i, zcat_j, zcat_f, zcat_d]) (fun z hz => by cases hz) dX2_copy_55 (fun r35 => ?_)
    show zS _ 58 _ [va_rf r35] _
    refine zs_pop hE (zcat_rf _) dX2_copy_58 ?_
    refine zs_goto hE 21 (by decide) dX2_copy_59 ?_
    refine zs_sub [1, 2, 3] rfl ?_
    exact hs21 ()
theorem sm_X2_copy_L21 {x : ZX (Option Nat)} {K : ZK} (hE : zE x K cX2_copy RX2 "copy" 4 9 275 encR (Option.some (Jvm.ClassFile.FieldType.object "TokenRing$State")) []) (x0 : Nat) (x1 : Nat) (x2 : Option Nat) (v : Unit) : zS x 21 [(0, va_rf (some x0)), (1, va_rf (some x1)), (2, va_rf x2)] [] (s_X2_copy_L21 K x0 x1 x2 v) := by
  unfold s_X2_copy_L21
  exact zs_loop (lvf := fun v => [(0, va_rf (some x0)), (1, va_rf (some x1)), (2, va_rf x2)]) (fun self21 hs21 v => sm_X2_copy_B21 hE x0 x1 x2 self21 hs21) v
theorem sm_X2_copy {x : ZX (Option Nat)} {K : ZK} (hE : zE x K cX2_copy RX2 "copy" 4 9 275 encR (Option.some (Jvm.ClassFile.FieldType.object "TokenRing$State")) []) (this : Nat) : zS x 0 [(0, va_rf (some this))] [] (s_X2_copy K this) := by
  unfold s_X2_copy
  refine zs_new hE (ci := 34) (fs := [.null, .int 0, .int 0, .int 0, .int 0, .null, .int 0, .int 0, .int 0, .int 0, .int 0, .int 0, .int 0, .int 0, .int 0, .int 0, .int 0, .int 0, .int 0, .int 0, .int 0, .int 0, .int 0, .int 0, .int 0]) rfl in_X2 tyX2 tyX2_ok q1508 q172 q96 (fun j hj => by rcases (show j = 0 ∨ j = 1 ∨ j = 2 ∨ j = 3 ∨ j = 4 ∨ j = 5 ∨ j = 6 ∨ j = 7 ∨ j = 8 ∨ j = 9 ∨ j = 10 ∨ j = 11 ∨ j = 12 ∨ j = 13 ∨ j = 14 ∨ j = 15 ∨ j = 16 ∨ j = 17 ∨ j = 18 ∨ j = 19 ∨ j = 20 ∨ j = 21 ∨ j = 22 ∨ j = 23 ∨ j = 24 by omega) with rfl | rfl | rfl | rfl | rfl | rfl | rfl | rfl | rfl | rfl | rfl | rfl | rfl | rfl | rfl | rfl | rfl | rfl | rfl | rfl | rfl | rfl | rfl | rfl | rfl <;> rfl) dX2_copy_0 (fun q1 => ?_)
  refine zs_dup hE (zcat_rf _) dX2_copy_3 ?_
  refine zs_callI hE (As := []) (encA := encV) (met_X2_init K q1) q175 q96 q1509 q174 rfl hd_X2_init (by decide) (by decide) rfl (by simp [zcat_rf, zcat_i, zcat_j, zcat_f, zcat_d]) (fun z hz => by cases hz) dX2_copy_4 (fun _ => ?_)
  show zS _ 7 _ [va_rf (some q1)] _
  refine zs_astore_n hE (i := 1) (q := 1) rfl (by decide) (zcat_rf (some this)) (lv' := [(0, va_rf (some this))]) rfl dX2_copy_7 ?_
  refine zs_aload_n hE 1 rfl rfl dX2_copy_8 ?_
  refine zs_getR hE (ci := 34) (k := 0) rfl (by decide) in_X2 (Or.inl q215) (Or.inl rfl) dX2_copy_9 (fun v2 => ?_)
  refine zs_callV hE (As := []) (encA := encR) (ci := 0) rfl (fun y0 => met_J1_values K y0) q427 q98 q424 q425 (zq q426) hd_J1_values (by decide) (by decide) rfl (by simp [zcat_rf, zcat_i, zcat_j, zcat_f, zcat_d]) (fun z hz => by cases hz) dX2_copy_12 (fun r3 => ?_)
  show zS _ 15 _ [va_rf r3] _
  refine zs_callF hE (xx := ⟨"java/util/Collection", "iterator", "()Ljava/util/Iterator;"⟩) (As := []) (encA := encR) (ci := 3) rfl (fun y0 => met_J21_iterator K y0) q831 q122 q439 (List.mem_of_getElem? (i := 0) rfl) q829 q827 hdx_h1 (by decide) (by decide) rfl (by simp [zcat_rf, zcat_i, zcat_j, zcat_f, zcat_d]) (fun z hz => by cases hz) dX2_copy_15 (fun r4 => ?_)
  show zS _ 20 _ [va_rf r4] _
  refine zs_astore_n hE (i := 2) (q := 2) rfl (by decide) (zcat_rf (some q1)) (lv' := [(1, va_rf (some q1)), (0, va_rf (some this))]) rfl dX2_copy_20 ?_
  refine zs_sub [2, 1, 0] rfl ?_
  exact sm_X2_copy_L21 hE this q1 r4 ()
theorem hd_X2_copy : (yX2_copy).cls ≠ "java/lang/invoke/MethodHandle" ∧ (yX2_copy).cls ≠ "java/lang/invoke/VarHandle" ∧ (parseMethodDescriptor (yX2_copy).desc).map (fun d => d.parameters.length) = some 0 := by decide +kernel
theorem met_X2_copy (K : ZK) (this : Nat) : zMeth K yX2_copy (zws yX2_copy cX2_copy 4 (Option.some (Jvm.ClassFile.FieldType.object "TokenRing$State"))) 9 275 [.ref this] encR (s_X2_copy K this) :=
  fun l G hl hK => zmet_of hl hK (by decide +kernel) rfl rfl (by simp [zsl_nil, zsl_rf, zsl_r, zsl_i, zsl_j, zsl_f, zsl_d]) (fun x hE => by simp only [zla_nil, zla_rf, zla_r, zla_i, zla_j, zla_f, zla_d, Nat.reduceAdd]; exact sm_X2_copy hE this)
theorem sm_J3_inc {x : ZX Int32} {K : ZK} (hE : zE x K cJ3_inc RJ3 "inc" 2 1 100 encI (Option.some Jvm.ClassFile.FieldType.int) []) (a1 : Int32) (a2 : Int32) : zS x 0 [(0, .int a1), (1, .int a2)] [] (s_J3_inc K a1 a2) := by
  unfold s_J3_inc
  refine zs_iinc hE 0 (v := (1 : Int32)) rfl (by decide) (by decide) (trivial) (lv' := [(1, .int a2)]) rfl dJ3_inc_0 ?_
  refine zs_iload_n hE 0 rfl rfl dJ3_inc_3 ?_
  refine zs_iload_n hE 1 rfl rfl dJ3_inc_4 ?_
  refine zs_icmp_lt hE 10 (by decide) dJ3_inc_5 ?_ ?_
  · refine zs_iload_n hE 0 rfl rfl dJ3_inc_10 ?_
    exact zs_iret hE dJ3_inc_11
  · refine zs_iconst hE (v := (0 : Int32)) (by decide) dJ3_inc_8 ?_
    refine zs_istore_n hE (i := 0) (q := 0) rfl (by decide) (trivial) (lv' := [(1, .int a2)]) rfl dJ3_inc_9 ?_
    refine zs_iload_n hE 0 rfl rfl dJ3_inc_10 ?_
    exact zs_iret hE dJ3_inc_11
theorem hd_J3_inc : (yJ3_inc).cls ≠ "java/lang/invoke/MethodHandle" ∧ (yJ3_inc).cls ≠ "java/lang/invoke/VarHandle" ∧ (parseMethodDescriptor (yJ3_inc).desc).map (fun d => d.parameters.length) = some 2 := by decide +kernel
theorem met_J3_inc (K : ZK) (a1 : Int32) (a2 : Int32) : zMeth K yJ3_inc (zws yJ3_inc cJ3_inc 2 (Option.some Jvm.ClassFile.FieldType.int)) 1 100 [.int a1, .int a2] encI (s_J3_inc K a1 a2) :=
  fun l G hl hK => zmet_of hl hK (by decide +kernel) rfl rfl (by simp [zsl_nil, zsl_rf, zsl_r, zsl_i, zsl_j, zsl_f, zsl_d]) (fun x hE => by simp only [zla_nil, zla_rf, zla_r, zla_i, zla_j, zla_f, zla_d, Nat.reduceAdd]; exact sm_J3_inc hE a1 a2)
theorem sm_J3_newCapacity {x : ZX Int32} {K : ZK} (hE : zE x K cJ3_newCapacity RJ3 "newCapacity" 5 1 100 encI (Option.some Jvm.ClassFile.FieldType.int) []) (this : Nat) (a1 : Int32) (a2 : Int32) : zS x 0 [(0, va_rf (some this)), (1, .int a1), (2, .int a2)] [] (s_J3_newCapacity K this a1 a2) := by
  unfold s_J3_newCapacity
  refine zs_aload_n hE 0 rfl rfl dJ3_newCapacity_0 ?_
  refine zs_getR hE (ci := 10) (k := 0) rfl (by decide) in_J3 (Or.inl q346) (Or.inl rfl) dJ3_newCapacity_1 (fun v1 => ?_)
  refine zs_len hE (t := 4) rfl dJ3_newCapacity_4 (fun v2 => ?_)
  refine zs_istore_n hE (i := 3) (q := 3) rfl (by decide) (rfl) (lv' := [(0, va_rf (some this)), (1, .int a1), (2, .int a2)]) rfl dJ3_newCapacity_5 ?_
  refine zs_iload_n hE 0 rfl rfl dJ3_newCapacity_6 ?_
  refine zs_iload_n hE 2 rfl rfl dJ3_newCapacity_7 ?_
  refine zs_iadd hE dJ3_newCapacity_8 ?_
  refine zs_dup hE (rfl) dJ3_newCapacity_9 ?_
  refine zs_istore hE (i := 4) (by decide) (rfl) (lv' := [(3, .int v2), (0, va_rf (some this)), (1, .int a1), (2, .int a2)]) rfl dJ3_newCapacity_10 ?_
  refine zs_ldc hE q1842 dJ3_newCapacity_12 ?_
  refine zs_isub hE dJ3_newCapacity_14 ?_
  refine zs_if_le hE 36 (by decide) dJ3_newCapacity_15 ?_ ?_
  · refine zs_iload_n hE 3 rfl rfl dJ3_newCapacity_36 ?_
    refine zs_iload_n hE 4 rfl rfl dJ3_newCapacity_37 ?_
    refine zs_icmp_le hE 44 (by decide) dJ3_newCapacity_38 ?_ ?_
    · refine zs_iload_n hE 1 rfl rfl dJ3_newCapacity_44 ?_
      refine zs_iload_n hE 4 rfl rfl dJ3_newCapacity_45 ?_
      refine zs_iadd hE dJ3_newCapacity_46 ?_
      refine zs_ldc hE q1842 dJ3_newCapacity_47 ?_
      refine zs_isub hE dJ3_newCapacity_49 ?_
      refine zs_if_ge hE 59 (by decide) dJ3_newCapacity_50 ?_ ?_
      · refine zs_ldc hE q1842 dJ3_newCapacity_59 ?_
        exact zs_iret hE dJ3_newCapacity_61
      · refine zs_iload_n hE 1 rfl rfl dJ3_newCapacity_53 ?_
        refine zs_iload_n hE 4 rfl rfl dJ3_newCapacity_54 ?_
        refine zs_iadd hE dJ3_newCapacity_55 ?_
        refine zs_goto hE 61 (by decide) dJ3_newCapacity_56 ?_
        exact zs_iret hE dJ3_newCapacity_61
    · refine zs_iload hE 0 rfl dJ3_newCapacity_41 ?_
      exact zs_iret hE dJ3_newCapacity_43
  · refine zs_iload hE 0 rfl dJ3_newCapacity_18 ?_
    refine zs_if_ge hE 33 (by decide) dJ3_newCapacity_20 ?_ ?_
    · refine zs_ldc hE q1863 dJ3_newCapacity_33 ?_
      exact zs_iret hE dJ3_newCapacity_35
    · exact zs_bad
theorem hd_J3_newCapacity : (yJ3_newCapacity).cls ≠ "java/lang/invoke/MethodHandle" ∧ (yJ3_newCapacity).cls ≠ "java/lang/invoke/VarHandle" ∧ (parseMethodDescriptor (yJ3_newCapacity).desc).map (fun d => d.parameters.length) = some 2 := by decide +kernel
theorem met_J3_newCapacity (K : ZK) (this : Nat) (a1 : Int32) (a2 : Int32) : zMeth K yJ3_newCapacity (zws yJ3_newCapacity cJ3_newCapacity 5 (Option.some Jvm.ClassFile.FieldType.int)) 1 100 [.ref this, .int a1, .int a2] encI (s_J3_newCapacity K this a1 a2) :=
  fun l G hl hK => zmet_of hl hK (by decide +kernel) rfl rfl (by simp [zsl_nil, zsl_rf, zsl_r, zsl_i, zsl_j, zsl_f, zsl_d]) (fun x hE => by simp only [zla_nil, zla_rf, zla_r, zla_i, zla_j, zla_f, zla_d, Nat.reduceAdd]; exact sm_J3_newCapacity hE this a1 a2)
theorem sm_J3_grow_B145 {x : ZX Unit} {K : ZK} (hE : zE x K cJ3_grow RJ3 "grow" 9 4 165 encV none []) (x5 : Option Nat) (x8 : Int32) (self145 : Int32 → ZP Unit) (hs145 : ∀ v : Int32, zS x 145 [(5, va_rf x5), (7, .int v), (8, .int x8)] [] (self145 v)) (x7 : Int32) : zS x 145 [(5, va_rf x5), (7, .int x7), (8, .int x8)] [] (s_J3_grow_B145 K x5 x8 self145 x7) := by
  unfold s_J3_grow_B145
  refine zs_iload hE 1 rfl dJ3_grow_145 ?_
  refine zs_iload hE 2 rfl dJ3_grow_147 ?_
  refine zs_icmp_ge hE 164 (by decide) dJ3_grow_149 ?_ ?_
  · exact zs_vret hE dJ3_grow_164
  · refine zs_aload hE 0 rfl dJ3_grow_152 ?_
    refine zs_iload hE 1 rfl dJ3_grow_154 ?_
    refine zs_null hE dJ3_grow_156 ?_
    refine zs_astR hE dJ3_grow_157 ?_
    refine zs_iinc hE 1 (v := (1 : Int32)) rfl (by decide) (by decide) (trivial) (lv' := [(5, va_rf x5), (8, .int x8)]) rfl dJ3_grow_158 ?_
    refine zs_goto hE 145 (by decide) dJ3_grow_161 ?_
    refine zs_sub [1, 0, 2] rfl ?_
    exact hs145 (x7 + (1 : Int32))
theorem sm_J3_grow_L145 {x : ZX Unit} {K : ZK} (hE : zE x K cJ3_grow RJ3 "grow" 9 4 165 encV none []) (x5 : Option Nat) (x8 : Int32) (v : Int32) : zS x 145 [(5, va_rf x5), (7, .int v), (8, .int x8)] [] (s_J3_grow_L145 K x5 x8 v) := by
  unfold s_J3_grow_L145
  exact zs_loop (lvf := fun v => [(5, va_rf x5), (7, .int v), (8, .int x8)]) (fun self145 hs145 v => sm_J3_grow_B145 hE x5 x8 self145 hs145 v) v
theorem sm_J3_grow_J96 {x : ZX Unit} {K : ZK} (hE : zE x K cJ3_grow RJ3 "grow" 9 4 165 encV none []) (x0 : Nat) (x2 : Int32) (x3 : Int32) (x5 : Option Nat) : zS x 96 [(0, va_rf (some x0)), (2, .int x2), (3, .int x3), (5, va_rf x5)] [] (s_J3_grow_J96 K x0 x2 x3 x5) := by
  unfold s_J3_grow_J96
  refine zs_iload_n hE 2 rfl rfl dJ3_grow_96 ?_
  refine zs_iload_n hE 1 rfl rfl dJ3_grow_97 ?_
  refine zs_isub hE dJ3_grow_98 ?_
  refine zs_istore hE (i := 6) (by decide) (zcat_rf x5) (lv' := [(0, va_rf (some x0)), (2, .int x2), (3, .int x3), (5, va_rf x5)]) rfl dJ3_grow_99 ?_
  refine zs_aload hE 4 rfl dJ3_grow_101 ?_
  refine zs_aload_n hE 1 rfl rfl dJ3_grow_103 ?_
  refine zs_getI hE (ci := 10) (k := 1) rfl (by decide) in_J3 (Or.inl q349) (Or.inl rfl) dJ3_grow_104 (fun v8 => ?_)
  refine zs_aload hE 4 rfl dJ3_grow_107 ?_
  refine zs_aload_n hE 1 rfl rfl dJ3_grow_109 ?_
  refine zs_getI hE (ci := 10) (k := 1) rfl (by decide) in_J3 (Or.inl q349) (Or.inl rfl) dJ3_grow_110 (fun v9 => ?_)
  refine zs_iload hE 0 rfl dJ3_grow_113 ?_
  refine zs_iadd hE dJ3_grow_115 ?_
  refine zs_iload_n hE 2 rfl rfl dJ3_grow_116 ?_
  refine zs_aload_n hE 1 rfl rfl dJ3_grow_117 ?_
  refine zs_getI hE (ci := 10) (k := 1) rfl (by decide) in_J3 (Or.inl q349) (Or.inl rfl) dJ3_grow_118 (fun v10 => ?_)
  refine zs_isub hE dJ3_grow_121 ?_
  refine zs_copyR hE q1865 q1173 q1172 q135 (by decide) (by decide) dJ3_grow_122 ?_
  refine zs_aload_n hE 1 rfl rfl dJ3_grow_125 ?_
  refine zs_getI hE (ci := 10) (k := 1) rfl (by decide) in_J3 (Or.inl q349) (Or.inl rfl) dJ3_grow_126 (fun v11 => ?_)
  refine zs_istore hE (i := 7) (by decide) (rfl) (lv' := [(6, .int (x3 - x2)), (0, va_rf (some x0)), (2, .int x2), (3, .int x3), (5, va_rf x5)]) rfl dJ3_grow_129 ?_
  refine zs_aload_n hE 2 rfl rfl dJ3_grow_131 ?_
  refine zs_dup hE (zcat_rf _) dJ3_grow_132 ?_
  refine zs_getI hE (ci := 10) (k := 1) rfl (by decide) in_J3 (Or.inl q349) (Or.inl rfl) dJ3_grow_133 (fun v12 => ?_)
  refine zs_iload hE 1 rfl dJ3_grow_136 ?_
  refine zs_iadd hE dJ3_grow_138 ?_
  refine zs_dup_x1 hE (rfl) (zcat_rf _) dJ3_grow_139 ?_
  refine zs_putI hE (ci := 10) (k := 1) rfl (by decide) in_J3 (Or.inl q349) (Or.inl rfl) (Or.inl rfl) (fun h => nomatch h) rfl dJ3_grow_140 ?_
  refine zs_istore hE (i := 8) (by decide) (rfl) (lv' := [(7, .int v11), (6, .int (x3 - x2)), (0, va_rf (some x0)), (2, .int x2), (3, .int x3), (5, va_rf x5)]) rfl dJ3_grow_143 ?_
  refine zs_sub [6, 1, 0] rfl ?_
  exact sm_J3_grow_L145 hE x5 (v12 + (x3 - x2)) v11
theorem sm_J3_grow_J49 {x : ZX Unit} {K : ZK} (hE : zE x K cJ3_grow RJ3 "grow" 9 4 165 encV none []) (x0 : Nat) (x2 : Int32) (x3 : Int32) : zS x 49 [(0, va_rf (some x0)), (2, .int x2), (3, .int x3)] [] (s_J3_grow_J49 K x0 x2 x3) := by
  unfold s_J3_grow_J49
  refine zs_aload_n hE 0 rfl rfl dJ3_grow_49 ?_
  refine zs_aload_n hE 0 rfl rfl dJ3_grow_50 ?_
  refine zs_getR hE (ci := 10) (k := 0) rfl (by decide) in_J3 (Or.inl q346) (Or.inl rfl) dJ3_grow_51 (fun v4 => ?_)
  refine zs_iload_n hE 2 rfl rfl dJ3_grow_54 ?_
  refine zs_callS hE (As := [va_rf v4, .int x3]) (encA := encR) (met_J32_copyOf_2 K v4 x3) q1596 q134 q1864 q1595 hd_J32_copyOf_2 (by decide) (by decide) rfl (by simp [zcat_rf, zcat_i, zcat_j, zcat_f, zcat_d]) (fun z hz => by cases hz) dJ3_grow_55 (fun r5 => ?_)
  show zS _ 58 _ [va_rf r5, va_rf (some x0)] _
  refine zs_dup_x1 hE (zcat_rf _) (zcat_rf _) dJ3_grow_58 ?_
  refine zs_putR hE (ci := 10) (k := 0) rfl (by decide) in_J3 (Or.inl q346) (Or.inl rfl) (Or.inl rfl) (fun h => nomatch h) (tyJ3_ok 0 (by decide)) (Or.inr ⟨_, rfl⟩) dJ3_grow_59 ?_
  refine zs_astore hE (i := 5) (by decide) (trivial) (lv' := [(0, va_rf (some x0)), (2, .int x2), (3, .int x3)]) rfl dJ3_grow_62 ?_
  refine zs_aload_n hE 1 rfl rfl dJ3_grow_64 ?_
  refine zs_getI hE (ci := 10) (k := 2) rfl (by decide) in_J3 (Or.inl q350) (Or.inl rfl) dJ3_grow_65 (fun v6 => ?_)
  refine zs_aload_n hE 1 rfl rfl dJ3_grow_68 ?_
  refine zs_getI hE (ci := 10) (k := 1) rfl (by decide) in_J3 (Or.inl q349) (Or.inl rfl) dJ3_grow_69 (fun v7 => ?_)
  refine zs_icmp_lt hE 96 (by decide) dJ3_grow_72 ?_ ?_
  · refine zs_sub [1, 2, 3, 0] rfl ?_
    exact sm_J3_grow_J96 hE x0 x2 x3 r5
  · refine zs_aload_n hE 1 rfl rfl dJ3_grow_75 ?_
    refine zs_getI hE (ci := 10) (k := 2) rfl (by decide) in_J3 (Or.inl q350) (Or.inl rfl) dJ3_grow_76 (fun v13 => ?_)
    refine zs_aload_n hE 1 rfl rfl dJ3_grow_79 ?_
    refine zs_getI hE (ci := 10) (k := 1) rfl (by decide) in_J3 (Or.inl q349) (Or.inl rfl) dJ3_grow_80 (fun v14 => ?_)
    refine zs_icmp_ne hE 164 (by decide) dJ3_grow_83 ?_ ?_
    · refine zs_aload hE 0 rfl dJ3_grow_86 ?_
      refine zs_aload_n hE 1 rfl rfl dJ3_grow_88 ?_
      refine zs_getI hE (ci := 10) (k := 1) rfl (by decide) in_J3 (Or.inl q349) (Or.inl rfl) dJ3_grow_89 (fun v15 => ?_)
      refine zs_aldR hE dJ3_grow_92 (fun v16 => ?_)
      refine zs_ifnull hE 164 (by decide) dJ3_grow_93 ?_ ?_
      · exact zs_vret hE dJ3_grow_164
      · refine zs_sub [1, 2, 3, 0] rfl ?_
        exact sm_J3_grow_J96 hE x0 x2 x3 r5
    · exact zs_vret hE dJ3_grow_164
theorem sm_J3_grow_J41 {x : ZX Unit} {K : ZK} (hE : zE x K cJ3_grow RJ3 "grow" 9 4 165 encV none []) (x0 : Nat) (x1 : Int32) (x2 : Int32) (x4 : Int32) : zS x 41 [(0, va_rf (some x0)), (1, .int x1), (2, .int x2), (4, .int x4)] [] (s_J3_grow_J41 K x0 x1 x2 x4) := by
  unfold s_J3_grow_J41
  refine zs_aload_n hE 0 rfl rfl dJ3_grow_41 ?_
  refine zs_iload_n hE 1 rfl rfl dJ3_grow_42 ?_
  refine zs_iload hE 3 rfl dJ3_grow_43 ?_
  refine zs_callV hE (As := [.int x1, .int x4]) (encA := encI) (ci := 10) rfl (fun y0 => met_J3_newCapacity K y0 x1 x4) q1846 q100 q1843 q1845 (zq qs16) hd_J3_newCapacity (by decide) (by decide) rfl (by simp [zcat_rf, zcat_i, zcat_j, zcat_f, zcat_d]) (fun z hz => by cases hz) dJ3_grow_45 (fun r3 => ?_)
  show zS _ 48 _ [.int r3] _
  refine zs_istore_n hE (i := 3) (q := 3) rfl (by decide) (rfl) (lv' := [(0, va_rf (some x0)), (1, .int x1), (2, .int x2), (4, .int x4)]) rfl dJ3_grow_48 ?_
  refine zs_sub [1, 3, 0] rfl ?_
  exact sm_J3_grow_J49 hE x0 x2 r3
theorem sm_J3_grow_J21 {x : ZX Unit} {K : ZK} (hE : zE x K cJ3_grow RJ3 "grow" 9 4 165 encV none []) (x0 : Nat) (x1 : Int32) (x2 : Int32) (t0 : Int32) : zS x 21 [(0, va_rf (some x0)), (1, .int x1), (2, .int x2)] [.int t0] (s_J3_grow_J21 K x0 x1 x2 t0) := by
  unfold s_J3_grow_J21
  refine zs_istore hE (i := 4) (by decide) (trivial) (lv' := [(0, va_rf (some x0)), (1, .int x1), (2, .int x2)]) rfl dJ3_grow_21 ?_
  refine zs_iload hE 0 rfl dJ3_grow_23 ?_
  refine zs_iload_n hE 2 rfl rfl dJ3_grow_25 ?_
  refine zs_icmp_lt hE 41 (by decide) dJ3_grow_26 ?_ ?_
  · refine zs_sub [1, 2, 3, 0] rfl ?_
    exact sm_J3_grow_J41 hE x0 x1 x2 t0
  · refine zs_iload_n hE 3 rfl rfl dJ3_grow_29 ?_
    refine zs_iload hE 0 rfl dJ3_grow_30 ?_
    refine zs_iadd hE dJ3_grow_32 ?_
    refine zs_dup hE (rfl) dJ3_grow_33 ?_
    refine zs_istore_n hE (i := 3) (q := 3) rfl (by decide) (rfl) (lv' := [(4, .int t0), (0, va_rf (some x0)), (1, .int x1), (2, .int x2)]) rfl dJ3_grow_34 ?_
    refine zs_ldc hE q1842 dJ3_grow_35 ?_
    refine zs_isub hE dJ3_grow_37 ?_
    refine zs_if_le hE 49 (by decide) dJ3_grow_38 ?_ ?_
    · refine zs_sub [2, 4, 0] rfl ?_
      exact sm_J3_grow_J49 hE x0 x2 (x2 + t0)
    · refine zs_sub [2, 3, 4, 1] rfl ?_
      exact sm_J3_grow_J41 hE x0 x1 x2 t0
theorem sm_J3_grow {x : ZX Unit} {K : ZK} (hE : zE x K cJ3_grow RJ3 "grow" 9 4 165 encV none []) (this : Nat) (a1 : Int32) : zS x 0 [(0, va_rf (some this)), (1, .int a1)] [] (s_J3_grow K this a1) := by
  unfold s_J3_grow
  refine zs_aload_n hE 0 rfl rfl dJ3_grow_0 ?_
  refine zs_getR hE (ci := 10) (k := 0) rfl (by decide) in_J3 (Or.inl q346) (Or.inl rfl) dJ3_grow_1 (fun v1 => ?_)
  refine zs_len hE (t := 4) rfl dJ3_grow_4 (fun v2 => ?_)
  refine zs_istore_n hE (i := 2) (q := 2) rfl (by decide) (rfl) (lv' := [(0, va_rf (some this)), (1, .int a1)]) rfl dJ3_grow_5 ?_
  refine zs_iload_n hE 0 rfl rfl dJ3_grow_6 ?_
  refine zs_bipush hE (v := (64 : Int32)) (by decide) dJ3_grow_7 ?_
  refine zs_icmp_ge hE 18 (by decide) dJ3_grow_9 ?_ ?_
  · refine zs_iload_n hE 0 rfl rfl dJ3_grow_18 ?_
    refine zs_iconst hE (v := (1 : Int32)) (by decide) dJ3_grow_19 ?_
    refine zs_ishr hE dJ3_grow_20 ?_
    refine zs_sub [1, 2, 0] rfl ?_
    exact sm_J3_grow_J21 hE this a1 v2 (v2 >>> ((1 : Int32) &&& 31))
  · refine zs_iload_n hE 0 rfl rfl dJ3_grow_12 ?_
    refine zs_iconst hE (v := (2 : Int32)) (by decide) dJ3_grow_13 ?_
    refine zs_iadd hE dJ3_grow_14 ?_
    refine zs_goto hE 21 (by decide) dJ3_grow_15 ?_
    refine zs_sub [1, 2, 0] rfl ?_
    exact sm_J3_grow_J21 hE this a1 v2 (v2 + (2 : Int32))
theorem hd_J3_grow : (yJ3_grow).cls ≠ "java/lang/invoke/MethodHandle" ∧ (yJ3_grow).cls ≠ "java/lang/invoke/VarHandle" ∧ (parseMethodDescriptor (yJ3_grow).desc).map (fun d => d.parameters.length) = some 1 := by decide +kernel
theorem met_J3_grow (K : ZK) (this : Nat) (a1 : Int32) : zMeth K yJ3_grow (zws yJ3_grow cJ3_grow 9 none) 4 165 [.ref this, .int a1] encV (s_J3_grow K this a1) :=
  fun l G hl hK => zmet_of hl hK (by decide +kernel) rfl rfl (by simp [zsl_nil, zsl_rf, zsl_r, zsl_i, zsl_j, zsl_f, zsl_d]) (fun x hE => by simp only [zla_nil, zla_rf, zla_r, zla_i, zla_j, zla_f, zla_d, Nat.reduceAdd]; exact sm_J3_grow hE this a1)
theorem sm_J3_addLast {x : ZX Unit} {K : ZK} (hE : zE x K cJ3_addLast RJ3 "addLast" 3 5 193 encV none []) (this : Nat) (a1 : Option Nat) : zS x 0 [(0, va_rf (some this)), (1, va_rf a1)] [] (s_J3_addLast K this a1) := by
  unfold s_J3_addLast
  refine zs_aload_n hE 1 rfl rfl dJ3_addLast_0 ?_
  refine zs_ifnonnull hE 12 (by decide) dJ3_addLast_1 ?_ ?_
  · exact zs_bad
  · refine zs_aload_n hE 0 rfl rfl dJ3_addLast_12 ?_
    refine zs_getR hE (ci := 10) (k := 0) rfl (by decide) in_J3 (Or.inl q346) (Or.inl rfl) dJ3_addLast_13 (fun v1 => ?_)
    refine zs_astore_n hE (i := 2) (q := 2) rfl (by decide) (zcat_rf a1) (lv' := [(0, va_rf (some this)), (1, va_rf a1)]) rfl dJ3_addLast_16 ?_
    refine zs_aload_n hE 0 rfl rfl dJ3_addLast_17 ?_
    refine zs_aload_n hE 1 rfl rfl dJ3_addLast_18 ?_
    refine zs_getI hE (ci := 10) (k := 2) rfl (by decide) in_J3 (Or.inl q350) (Or.inl rfl) dJ3_addLast_19 (fun v2 => ?_)
    refine zs_aload_n hE 2 rfl rfl dJ3_addLast_22 ?_
    refine zs_astR hE dJ3_addLast_23 ?_
    refine zs_aload_n hE 1 rfl rfl dJ3_addLast_24 ?_
    refine zs_getI hE (ci := 10) (k := 1) rfl (by decide) in_J3 (Or.inl q349) (Or.inl rfl) dJ3_addLast_25 (fun v3 => ?_)
    refine zs_aload_n hE 1 rfl rfl dJ3_addLast_28 ?_
    refine zs_aload_n hE 1 rfl rfl dJ3_addLast_29 ?_
    refine zs_getI hE (ci := 10) (k := 2) rfl (by decide) in_J3 (Or.inl q350) (Or.inl rfl) dJ3_addLast_30 (fun v4 => ?_)
    refine zs_aload_n hE 0 rfl rfl dJ3_addLast_33 ?_
    refine zs_len hE (t := 4) rfl dJ3_addLast_34 (fun v5 => ?_)
    refine zs_callS hE (As := [.int v4, .int v5]) (encA := encI) (met_J3_inc K v4 v5) q1040 q100 q1837 q1039 hd_J3_inc (by decide) (by decide) rfl (by simp [zcat_rf, zcat_i, zcat_j, zcat_f, zcat_d]) (fun z hz => by cases hz) dJ3_addLast_35 (fun r6 => ?_)
    show zS _ 38 _ [.int r6, va_rf (some this), .int v3] _
    refine zs_dup_x1 hE (rfl) (zcat_rf _) dJ3_addLast_38 ?_
    refine zs_putI hE (ci := 10) (k := 2) rfl (by decide) in_J3 (Or.inl q350) (Or.inl rfl) (Or.inl rfl) (fun h => nomatch h) rfl dJ3_addLast_39 ?_
    refine zs_icmp_ne hE 50 (by decide) dJ3_addLast_42 ?_ ?_
    · refine zs_aload_n hE 1 rfl rfl dJ3_addLast_45 ?_
      refine zs_iconst hE (v := (1 : Int32)) (by decide) dJ3_addLast_46 ?_
      refine zs_callV hE (As := [.int (1 : Int32)]) (encA := encV) (ci := 10) rfl (fun y0 => met_J3_grow K y0 (1 : Int32)) q1841 q100 q1838 q1840 (zq qs15) hd_J3_grow (by decide) (by decide) rfl (by simp [zcat_rf, zcat_i, zcat_j, zcat_f, zcat_d]) (fun z hz => by cases hz) dJ3_addLast_47 (fun _ => ?_)
      show zS _ 50 _ [] _
      exact zs_vret hE dJ3_addLast_50
    · exact zs_vret hE dJ3_addLast_50
theorem hd_J3_addLast : (yJ3_addLast).cls ≠ "java/lang/invoke/MethodHandle" ∧ (yJ3_addLast).cls ≠ "java/lang/invoke/VarHandle" ∧ (parseMethodDescriptor (yJ3_addLast).desc).map (fun d => d.parameters.length) = some 1 := by decide +kernel
theorem met_J3_addLast (K : ZK) (this : Nat) (a1 : Option Nat) : zMeth K yJ3_addLast (zws yJ3_addLast cJ3_addLast 3 none) 5 193 [.ref this, va_rf a1] encV (s_J3_addLast K this a1) :=
  fun l G hl hK => zmet_of hl hK (by decide +kernel) rfl rfl (by simp [zsl_nil, zsl_rf, zsl_r, zsl_i, zsl_j, zsl_f, zsl_d]) (fun x hE => by simp only [zla_nil, zla_rf, zla_r, zla_i, zla_j, zla_f, zla_d, Nat.reduceAdd]; exact sm_J3_addLast hE this a1)
theorem sm_J3_sub {x : ZX Int32} {K : ZK} (hE : zE x K cJ3_sub RJ3 "sub" 3 1 100 encI (Option.some Jvm.ClassFile.FieldType.int) []) (a1 : Int32) (a2 : Int32) (a3 : Int32) : zS x 0 [(0, .int a1), (1, .int a2), (2, .int a3)] [] (s_J3_sub K a1 a2 a3) := by
  unfold s_J3_sub
  refine zs_iload_n hE 0 rfl rfl dJ3_sub_0 ?_
  refine zs_iload_n hE 1 rfl rfl dJ3_sub_1 ?_
  refine zs_isub hE dJ3_sub_2 ?_
  refine zs_dup hE (rfl) dJ3_sub_3 ?_
  refine zs_istore_n hE (i := 0) (q := 0) rfl (by decide) (trivial) (lv' := [(1, .int a2), (2, .int a3)]) rfl dJ3_sub_4 ?_
  refine zs_if_ge hE 12 (by decide) dJ3_sub_5 ?_ ?_
  · refine zs_iload_n hE 0 rfl rfl dJ3_sub_12 ?_
    exact zs_iret hE dJ3_sub_13
  · refine zs_iload_n hE 0 rfl rfl dJ3_sub_8 ?_
    refine zs_iload_n hE 2 rfl rfl dJ3_sub_9 ?_
    refine zs_iadd hE dJ3_sub_10 ?_
    refine zs_istore_n hE (i := 0) (q := 0) rfl (by decide) (trivial) (lv' := [(1, .int a2), (2, .int a3)]) rfl dJ3_sub_11 ?_
    refine zs_iload_n hE 0 rfl rfl dJ3_sub_12 ?_
    exact zs_iret hE dJ3_sub_13
theorem hd_J3_sub : (yJ3_sub).cls ≠ "java/lang/invoke/MethodHandle" ∧ (yJ3_sub).cls ≠ "java/lang/invoke/VarHandle" ∧ (parseMethodDescriptor (yJ3_sub).desc).map (fun d => d.parameters.length) = some 3 := by decide +kernel
theorem met_J3_sub (K : ZK) (a1 : Int32) (a2 : Int32) (a3 : Int32) : zMeth K yJ3_sub (zws yJ3_sub cJ3_sub 3 (Option.some Jvm.ClassFile.FieldType.int)) 1 100 [.int a1, .int a2, .int a3] encI (s_J3_sub K a1 a2 a3) :=
  fun l G hl hK => zmet_of hl hK (by decide +kernel) rfl rfl (by simp [zsl_nil, zsl_rf, zsl_r, zsl_i, zsl_j, zsl_f, zsl_d]) (fun x hE => by simp only [zla_nil, zla_rf, zla_r, zla_i, zla_j, zla_f, zla_d, Nat.reduceAdd]; exact sm_J3_sub hE a1 a2 a3)
theorem sm_J3_size {x : ZX Int32} {K : ZK} (hE : zE x K cJ3_size RJ3 "size" 1 2 122 encI (Option.some Jvm.ClassFile.FieldType.int) []) (this : Nat) : zS x 0 [(0, va_rf (some this))] [] (s_J3_size K this) := by
  unfold s_J3_size
  refine zs_aload_n hE 0 rfl rfl dJ3_size_0 ?_
  refine zs_getI hE (ci := 10) (k := 2) rfl (by decide) in_J3 (Or.inl q350) (Or.inl rfl) dJ3_size_1 (fun v1 => ?_)
  refine zs_aload_n hE 0 rfl rfl dJ3_size_4 ?_
  refine zs_getI hE (ci := 10) (k := 1) rfl (by decide) in_J3 (Or.inl q349) (Or.inl rfl) dJ3_size_5 (fun v2 => ?_)
  refine zs_aload_n hE 0 rfl rfl dJ3_size_8 ?_
  refine zs_getR hE (ci := 10) (k := 0) rfl (by decide) in_J3 (Or.inl q346) (Or.inl rfl) dJ3_size_9 (fun v3 => ?_)
  refine zs_len hE (t := 4) rfl dJ3_size_12 (fun v4 => ?_)
  refine zs_callS hE (As := [.int v1, .int v2, .int v4]) (encA := encI) (met_J3_sub K v1 v2 v4) q460 q100 q458 q459 hd_J3_sub (by decide) (by decide) rfl (by simp [zcat_rf, zcat_i, zcat_j, zcat_f, zcat_d]) (fun z hz => by cases hz) dJ3_size_13 (fun r5 => ?_)
  show zS _ 16 _ [.int r5] _
  exact zs_iret hE dJ3_size_16
theorem hd_J3_size : (yJ3_size).cls ≠ "java/lang/invoke/MethodHandle" ∧ (yJ3_size).cls ≠ "java/lang/invoke/VarHandle" ∧ (parseMethodDescriptor (yJ3_size).desc).map (fun d => d.parameters.length) = some 0 := by decide +kernel
theorem met_J3_size (K : ZK) (this : Nat) : zMeth K yJ3_size (zws yJ3_size cJ3_size 1 (Option.some Jvm.ClassFile.FieldType.int)) 2 122 [.ref this] encI (s_J3_size K this) :=
  fun l G hl hK => zmet_of hl hK (by decide +kernel) rfl rfl (by simp [zsl_nil, zsl_rf, zsl_r, zsl_i, zsl_j, zsl_f, zsl_d]) (fun x hE => by simp only [zla_nil, zla_rf, zla_r, zla_i, zla_j, zla_f, zla_d, Nat.reduceAdd]; exact sm_J3_size hE this)
theorem sm_J3_elementAt {x : ZX (Option Nat)} {K : ZK} (hE : zE x K cJ3_elementAt RJ3 "elementAt" 2 1 100 encR (Option.some (Jvm.ClassFile.FieldType.object "java/lang/Object")) []) (a1 : Option Nat) (a2 : Int32) : zS x 0 [(0, va_rf a1), (1, .int a2)] [] (s_J3_elementAt K a1 a2) := by
  unfold s_J3_elementAt
  refine zs_aload_n hE 0 rfl rfl dJ3_elementAt_0 ?_
  refine zs_iload_n hE 1 rfl rfl dJ3_elementAt_1 ?_
  refine zs_aldR hE dJ3_elementAt_2 (fun v1 => ?_)
  exact zs_aret hE (Or.inl ⟨_, rfl⟩) dJ3_elementAt_3
theorem hd_J3_elementAt : (yJ3_elementAt).cls ≠ "java/lang/invoke/MethodHandle" ∧ (yJ3_elementAt).cls ≠ "java/lang/invoke/VarHandle" ∧ (parseMethodDescriptor (yJ3_elementAt).desc).map (fun d => d.parameters.length) = some 2 := by decide +kernel
theorem met_J3_elementAt (K : ZK) (a1 : Option Nat) (a2 : Int32) : zMeth K yJ3_elementAt (zws yJ3_elementAt cJ3_elementAt 2 (Option.some (Jvm.ClassFile.FieldType.object "java/lang/Object"))) 1 100 [va_rf a1, .int a2] encR (s_J3_elementAt K a1 a2) :=
  fun l G hl hK => zmet_of hl hK (by decide +kernel) rfl rfl (by simp [zsl_nil, zsl_rf, zsl_r, zsl_i, zsl_j, zsl_f, zsl_d]) (fun x hE => by simp only [zla_nil, zla_rf, zla_r, zla_i, zla_j, zla_f, zla_d, Nat.reduceAdd]; exact sm_J3_elementAt hE a1 a2)
theorem sm_J3_pollFirst {x : ZX (Option Nat)} {K : ZK} (hE : zE x K cJ3_pollFirst RJ3 "pollFirst" 4 2 121 encR (Option.some (Jvm.ClassFile.FieldType.object "java/lang/Object")) []) (this : Nat) : zS x 0 [(0, va_rf (some this))] [] (s_J3_pollFirst K this) := by
  unfold s_J3_pollFirst
  refine zs_aload_n hE 0 rfl rfl dJ3_pollFirst_0 ?_
  refine zs_getR hE (ci := 10) (k := 0) rfl (by decide) in_J3 (Or.inl q346) (Or.inl rfl) dJ3_pollFirst_1 (fun v1 => ?_)
  refine zs_dup hE (zcat_rf _) dJ3_pollFirst_4 ?_
  refine zs_astore_n hE (i := 1) (q := 1) rfl (by decide) (zcat_rf (some this)) (lv' := [(0, va_rf (some this))]) rfl dJ3_pollFirst_5 ?_
  refine zs_aload_n hE 1 rfl rfl dJ3_pollFirst_6 ?_
  refine zs_getI hE (ci := 10) (k := 1) rfl (by decide) in_J3 (Or.inl q349) (Or.inl rfl) dJ3_pollFirst_7 (fun v2 => ?_)
  refine zs_dup hE (rfl) dJ3_pollFirst_10 ?_
  refine zs_istore_n hE (i := 2) (q := 2) rfl (by decide) (zcat_rf v1) (lv' := [(1, va_rf v1), (0, va_rf (some this))]) rfl dJ3_pollFirst_11 ?_
  refine zs_callS hE (As := [va_rf v1, .int v2]) (encA := encR) (met_J3_elementAt K v1 v2) q1877 q100 q1875 q1876 hd_J3_elementAt (by decide) (by decide) rfl (by simp [zcat_rf, zcat_i, zcat_j, zcat_f, zcat_d]) (fun z hz => by cases hz) dJ3_pollFirst_12 (fun r3 => ?_)
  show zS _ 15 _ [va_rf r3] _
  refine zs_astore_n hE (i := 3) (q := 3) rfl (by decide) (rfl) (lv' := [(2, .int v2), (1, va_rf v1), (0, va_rf (some this))]) rfl dJ3_pollFirst_15 ?_
  refine zs_aload_n hE 0 rfl rfl dJ3_pollFirst_16 ?_
  refine zs_ifnull hE 34 (by decide) dJ3_pollFirst_17 ?_ ?_
  · refine zs_aload_n hE 0 rfl rfl dJ3_pollFirst_34 ?_
    exact zs_aret hE (Or.inl ⟨_, rfl⟩) dJ3_pollFirst_35
  · refine zs_aload_n hE 2 rfl rfl dJ3_pollFirst_20 ?_
    refine zs_iload_n hE 1 rfl rfl dJ3_pollFirst_21 ?_
    refine zs_null hE dJ3_pollFirst_22 ?_
    refine zs_astR hE dJ3_pollFirst_23 ?_
    refine zs_aload_n hE 3 rfl rfl dJ3_pollFirst_24 ?_
    refine zs_iload_n hE 1 rfl rfl dJ3_pollFirst_25 ?_
    refine zs_aload_n hE 2 rfl rfl dJ3_pollFirst_26 ?_
    refine zs_len hE (t := 4) rfl dJ3_pollFirst_27 (fun v4 => ?_)
    refine zs_callS hE (As := [.int v2, .int v4]) (encA := encI) (met_J3_inc K v2 v4) q1040 q100 q1837 q1039 hd_J3_inc (by decide) (by decide) rfl (by simp [zcat_rf, zcat_i, zcat_j, zcat_f, zcat_d]) (fun z hz => by cases hz) dJ3_pollFirst_28 (fun r5 => ?_)
    show zS _ 31 _ [.int r5, va_rf (some this)] _
    refine zs_putI hE (ci := 10) (k := 1) rfl (by decide) in_J3 (Or.inl q349) (Or.inl rfl) (Or.inl rfl) (fun h => nomatch h) rfl dJ3_pollFirst_31 ?_
    refine zs_aload_n hE 0 rfl rfl dJ3_pollFirst_34 ?_
    exact zs_aret hE (Or.inl ⟨_, rfl⟩) dJ3_pollFirst_35
theorem hd_J3_pollFirst : (yJ3_pollFirst).cls ≠ "java/lang/invoke/MethodHandle" ∧ (yJ3_pollFirst).cls ≠ "java/lang/invoke/VarHandle" ∧ (parseMethodDescriptor (yJ3_pollFirst).desc).map (fun d => d.parameters.length) = some 0 := by decide +kernel
theorem met_J3_pollFirst (K : ZK) (this : Nat) : zMeth K yJ3_pollFirst (zws yJ3_pollFirst cJ3_pollFirst 4 (Option.some (Jvm.ClassFile.FieldType.object "java/lang/Object"))) 2 121 [.ref this] encR (s_J3_pollFirst K this) :=
  fun l G hl hK => zmet_of hl hK (by decide +kernel) rfl rfl (by simp [zsl_nil, zsl_rf, zsl_r, zsl_i, zsl_j, zsl_f, zsl_d]) (fun x hE => by simp only [zla_nil, zla_rf, zla_r, zla_i, zla_j, zla_f, zla_d, Nat.reduceAdd]; exact sm_J3_pollFirst hE this)
theorem sm_J3_removeFirst {x : ZX (Option Nat)} {K : ZK} (hE : zE x K cJ3_removeFirst RJ3 "removeFirst" 2 3 144 encR (Option.some (Jvm.ClassFile.FieldType.object "java/lang/Object")) []) (this : Nat) : zS x 0 [(0, va_rf (some this))] [] (s_J3_removeFirst K this) := by
  unfold s_J3_removeFirst
  refine zs_aload_n hE 0 rfl rfl dJ3_removeFirst_0 ?_
  refine zs_callV hE (As := []) (encA := encR) (ci := 10) rfl (fun y0 => met_J3_pollFirst K y0) q1874 q100 q1871 q1872 (zq q1873) hd_J3_pollFirst (by decide) (by decide) rfl (by simp [zcat_rf, zcat_i, zcat_j, zcat_f, zcat_d]) (fun z hz => by cases hz) dJ3_removeFirst_1 (fun r1 => ?_)
  show zS _ 4 _ [va_rf r1] _
  refine zs_astore_n hE (i := 1) (q := 1) rfl (by decide) (zcat_rf (some this)) (lv' := [(0, va_rf (some this))]) rfl dJ3_removeFirst_4 ?_
  refine zs_aload_n hE 0 rfl rfl dJ3_removeFirst_5 ?_
  refine zs_ifnonnull hE 17 (by decide) dJ3_removeFirst_6 ?_ ?_
  · exact zs_bad
  · refine zs_aload_n hE 0 rfl rfl dJ3_removeFirst_17 ?_
    exact zs_aret hE (Or.inl ⟨_, rfl⟩) dJ3_removeFirst_18
theorem hd_J3_removeFirst : (yJ3_removeFirst).cls ≠ "java/lang/invoke/MethodHandle" ∧ (yJ3_removeFirst).cls ≠ "java/lang/invoke/VarHandle" ∧ (parseMethodDescriptor (yJ3_removeFirst).desc).map (fun d => d.parameters.length) = some 0 := by decide +kernel
theorem met_J3_removeFirst (K : ZK) (this : Nat) : zMeth K yJ3_removeFirst (zws yJ3_removeFirst cJ3_removeFirst 2 (Option.some (Jvm.ClassFile.FieldType.object "java/lang/Object"))) 3 144 [.ref this] encR (s_J3_removeFirst K this) :=
  fun l G hl hK => zmet_of hl hK (by decide +kernel) rfl rfl (by simp [zsl_nil, zsl_rf, zsl_r, zsl_i, zsl_j, zsl_f, zsl_d]) (fun x hE => by simp only [zla_nil, zla_rf, zla_r, zla_i, zla_j, zla_f, zla_d, Nat.reduceAdd]; exact sm_J3_removeFirst hE this)
theorem sm_X1_change {x : ZX Unit} {K : ZK} (hE : zE x K cX1_change RX1 "change" 1 10 298 encV none []) (this : Nat) : zS x 0 [(0, va_rf (some this))] [] (s_X1_change K this) := by
  unfold s_X1_change
  refine zs_aload_n hE 0 rfl rfl dX1_change_0 ?_
  refine zs_getI hE (ci := 24) (k := 5) rfl (by decide) in_X1 (Or.inl q396) (Or.inl rfl) dX1_change_1 (fun v1 => ?_)
  refine zs_if_eq hE 8 (by decide) dX1_change_4 ?_ ?_
  · refine zs_aload_n hE 0 rfl rfl dX1_change_8 ?_
    refine zs_getR hE (ci := 24) (k := 2) rfl (by decide) in_X1 (Or.inl q393) (Or.inl rfl) dX1_change_9 (fun v2 => ?_)
    refine zs_aload_n hE 0 rfl rfl dX1_change_12 ?_
    refine zs_getR hE (ci := 24) (k := 0) rfl (by decide) in_X1 (Or.inl q391) (Or.inl rfl) dX1_change_13 (fun v3 => ?_)
    refine zs_callV hE (As := []) (encA := encR) (ci := 34) rfl (fun y0 => met_X2_copy K y0) q1507 q96 q1504 q1505 (zq q1506) hd_X2_copy (by decide) (by decide) rfl (by simp [zcat_rf, zcat_i, zcat_j, zcat_f, zcat_d]) (fun z hz => by cases hz) dX1_change_16 (fun r4 => ?_)
    show zS _ 19 _ [va_rf r4, va_rf v2] _
    refine zs_callV hE (As := [va_rf r4]) (encA := encV) (ci := 10) rfl (fun y0 => met_J3_addLast K y0 r4) q1836 q100 q1833 q1834 (zq q1835) hd_J3_addLast (by decide) (by decide) rfl (by simp [zcat_rf, zcat_i, zcat_j, zcat_f, zcat_d]) (fun z hz => by cases hz) dX1_change_19 (fun _ => ?_)
    show zS _ 22 _ [] _
    refine zs_aload_n hE 0 rfl rfl dX1_change_22 ?_
    refine zs_getR hE (ci := 24) (k := 2) rfl (by decide) in_X1 (Or.inl q393) (Or.inl rfl) dX1_change_23 (fun v5 => ?_)
    refine zs_callV hE (As := []) (encA := encI) (ci := 10) rfl (fun y0 => met_J3_size K y0) q457 q100 q1866 q455 (zq q456) hd_J3_size (by decide) (by decide) rfl (by simp [zcat_rf, zcat_i, zcat_j, zcat_f, zcat_d]) (fun z hz => by cases hz) dX1_change_26 (fun r6 => ?_)
    show zS _ 29 _ [.int r6] _
    refine zs_bipush hE (v := (8 : Int32)) (by decide) dX1_change_29 ?_
    refine zs_icmp_le hE 42 (by decide) dX1_change_31 ?_ ?_
    · exact zs_vret hE dX1_change_42
    · refine zs_aload_n hE 0 rfl rfl dX1_change_34 ?_
      refine zs_getR hE (ci := 24) (k := 2) rfl (by decide) in_X1 (Or.inl q393) (Or.inl rfl) dX1_change_35 (fun v7 => ?_)
      refine zs_callV hE (As := []) (encA := encR) (ci := 10) rfl (fun y0 => met_J3_removeFirst K y0) q1870 q100 q1867 q1868 (zq q1869) hd_J3_removeFirst (by decide) (by decide) rfl (by simp [zcat_rf, zcat_i, zcat_j, zcat_f, zcat_d]) (fun z hz => by cases hz) dX1_change_38 (fun r8 => ?_)
      show zS _ 41 _ [va_rf r8] _
      refine zs_pop hE (zcat_rf _) dX1_change_41 ?_
      exact zs_vret hE dX1_change_42
  · exact zs_vret hE dX1_change_7
theorem hd_X1_change : (yX1_change).cls ≠ "java/lang/invoke/MethodHandle" ∧ (yX1_change).cls ≠ "java/lang/invoke/VarHandle" ∧ (parseMethodDescriptor (yX1_change).desc).map (fun d => d.parameters.length) = some 0 := by decide +kernel
theorem met_X1_change (K : ZK) (this : Nat) : zMeth K yX1_change (zws yX1_change cX1_change 1 none) 10 298 [.ref this] encV (s_X1_change K this) :=
  fun l G hl hK => zmet_of hl hK (by decide +kernel) rfl rfl (by simp [zsl_nil, zsl_rf, zsl_r, zsl_i, zsl_j, zsl_f, zsl_d]) (fun x hE => by simp only [zla_nil, zla_rf, zla_r, zla_i, zla_j, zla_f, zla_d, Nat.reduceAdd]; exact sm_X1_change hE this)
theorem sm_X1_join {x : ZX Int32} {K : ZK} (hE : zE x K cX1_join RX1 "join" 2 11 318 encI (Option.some Jvm.ClassFile.FieldType.int) []) (this : Nat) (a1 : Int32) : zS x 0 [(0, va_rf (some this)), (1, .int a1)] [] (s_X1_join K this a1) := by
  unfold s_X1_join
  refine zs_aload_n hE 0 rfl rfl dX1_join_0 ?_
  refine zs_iload_n hE 1 rfl rfl dX1_join_1 ?_
  refine zs_iconst hE (v := (0 : Int32)) (by decide) dX1_join_2 ?_
  refine zs_bipush hE (v := (99 : Int32)) (by decide) dX1_join_3 ?_
  refine zs_callV hE (As := [.int a1, .int (0 : Int32), .int (99 : Int32)]) (encA := encV) (ci := 24) rfl (fun y0 => met_X1_inRange K y0 a1 (0 : Int32) (99 : Int32)) q1773 q95 q1770 q1772 (zq qs10) hd_X1_inRange (by decide) (by decide) rfl (by simp [zcat_rf, zcat_i, zcat_j, zcat_f, zcat_d]) (fun z hz => by cases hz) dX1_join_5 (fun _ => ?_)
  show zS _ 8 _ [] _
  refine zs_aload_n hE 0 rfl rfl dX1_join_8 ?_
  refine zs_aload_n hE 0 rfl rfl dX1_join_9 ?_
  refine zs_iload_n hE 1 rfl rfl dX1_join_10 ?_
  refine zs_callV hE (As := [.int a1]) (encA := encI) (ci := 24) rfl (fun y0 => met_X1_isStation K y0 a1) q1818 q95 q1815 q1817 (zq qs12) hd_X1_isStation (by decide) (by decide) rfl (by simp [zcat_rf, zcat_i, zcat_j, zcat_f, zcat_d]) (fun z hz => by cases hz) dX1_join_11 (fun r1 => ?_)
  show zS _ 14 _ [.int r1, va_rf (some this)] _
  refine zs_iconst hE (v := (2 : Int32)) (by decide) dX1_join_14 ?_
  refine zs_iload_n hE 1 rfl rfl dX1_join_15 ?_
  refine zs_callV hE (As := [.int r1, .int (2 : Int32), .int a1]) (encA := encV) (ci := 24) rfl (fun y0 => met_X1_refuse K y0 r1 (2 : Int32) a1) q1780 q95 q1777 q1779 (zq qs11) hd_X1_refuse (by decide) (by decide) rfl (by simp [zcat_rf, zcat_i, zcat_j, zcat_f, zcat_d]) (fun z hz => by cases hz) dX1_join_16 (fun _ => ?_)
  show zS _ 19 _ [] _
  refine zs_aload_n hE 0 rfl rfl dX1_join_19 ?_
  refine zs_aload_n hE 0 rfl rfl dX1_join_20 ?_
  refine zs_getR hE (ci := 24) (k := 0) rfl (by decide) in_X1 (Or.inl q391) (Or.inl rfl) dX1_join_21 (fun v2 => ?_)
  refine zs_getR hE (ci := 34) (k := 0) rfl (by decide) in_X2 (Or.inr ⟨_, zn q218 rfl⟩) (Or.inl rfl) dX1_join_24 (fun v3 => ?_)
  refine zs_callV hE (As := []) (encA := encI) (ci := 0) rfl (fun y0 => met_J1_size K y0) q857 q98 q1824 q855 (zq q856) hd_J1_size (by decide) (by decide) rfl (by simp [zcat_rf, zcat_i, zcat_j, zcat_f, zcat_d]) (fun z hz => by cases hz) dX1_join_27 (fun r4 => ?_)
  show zS _ 30 _ [.int r4, va_rf (some this)] _
  refine zs_bipush hE (v := (10 : Int32)) (by decide) dX1_join_30 ?_
  refine zs_callV hE (As := [.int r4, .int (10 : Int32)]) (encA := encV) (ci := 24) rfl (fun y0 => met_X1_hasPlace K y0 r4 (10 : Int32)) q1828 q95 q1825 q1827 (zq qs13) hd_X1_hasPlace (by decide) (by decide) rfl (by simp [zcat_rf, zcat_i, zcat_j, zcat_f, zcat_d]) (fun z hz => by cases hz) dX1_join_32 (fun _ => ?_)
  show zS _ 35 _ [] _
  refine zs_aload_n hE 0 rfl rfl dX1_join_35 ?_
  refine zs_callV hE (As := []) (encA := encV) (ci := 24) rfl (fun y0 => met_X1_change K y0) q1832 q95 q1829 q1831 (zq qs14) hd_X1_change (by decide) (by decide) rfl (by simp [zcat_rf, zcat_i, zcat_j, zcat_f, zcat_d]) (fun z hz => by cases hz) dX1_join_36 (fun _ => ?_)
  show zS _ 39 _ [] _
  refine zs_aload_n hE 0 rfl rfl dX1_join_39 ?_
  refine zs_getR hE (ci := 24) (k := 0) rfl (by decide) in_X1 (Or.inl q391) (Or.inl rfl) dX1_join_40 (fun v5 => ?_)
  refine zs_getR hE (ci := 34) (k := 0) rfl (by decide) in_X2 (Or.inr ⟨_, zn q218 rfl⟩) (Or.inl rfl) dX1_join_43 (fun v6 => ?_)
  refine zs_iload_n hE 1 rfl rfl dX1_join_46 ?_
  refine zs_callS hE (As := [.int a1]) (encA := encR) (met_J13_valueOf K a1) q904 q112 q1819 q903 hd_J13_valueOf (by decide) (by decide) rfl (by simp [zcat_rf, zcat_i, zcat_j, zcat_f, zcat_d]) (fun z hz => by cases hz) dX1_join_47 (fun r7 => ?_)
  show zS _ 50 _ [va_rf r7, va_rf v6] _
  refine zs_new hE (ci := 37) (fs := [.int 0, .null, .int 0, .int 0]) rfl in_X5 tyX5 tyX5_ok q1392 q1515 q131 (fun j hj => by rcases (show j = 0 ∨ j = 1 ∨ j = 2 ∨ j = 3 by omega) with rfl | rfl | rfl | rfl <;> rfl) dX1_join_50 (fun q8 => ?_)
  refine zs_dup hE (zcat_rf _) dX1_join_53 ?_
  refine zs_iload_n hE 1 rfl rfl dX1_join_54 ?_
  refine zs_callI hE (As := [.int a1]) (encA := encV) (met_X5_init K q8 a1) q1518 q131 q1880 q1517 rfl hd_X5_init (by decide) (by decide) rfl (by simp [zcat_rf, zcat_i, zcat_j, zcat_f, zcat_d]) (fun z hz => by cases hz) dX1_join_55 (fun _ => ?_)
  show zS _ 58 _ [va_rf (some q8), va_rf r7, va_rf v6] _
  refine zs_callV hE (As := [va_rf r7, va_rf (some q8)]) (encA := encR) (ci := 0) rfl (fun y0 => met_J1_put K y0 r7 (some q8)) q1654 q98 q1881 q1652 (zq q1653) hd_J1_put (by decide) (by decide) rfl (by simp [zcat_rf, zcat_i, zcat_j, zcat_f, zcat_d]) (fun z hz => by cases hz) dX1_join_58 (fun r9 => ?_)
  show zS _ 61 _ [va_rf r9] _
  refine zs_pop hE (zcat_rf _) dX1_join_61 ?_
  refine zs_aload_n hE 0 rfl rfl dX1_join_62 ?_
  refine zs_getR hE (ci := 24) (k := 0) rfl (by decide) in_X1 (Or.inl q391) (Or.inl rfl) dX1_join_63 (fun v10 => ?_)
  refine zs_getR hE (ci := 34) (k := 0) rfl (by decide) in_X2 (Or.inr ⟨_, zn q218 rfl⟩) (Or.inl rfl) dX1_join_66 (fun v11 => ?_)
  refine zs_callV hE (As := []) (encA := encI) (ci := 0) rfl (fun y0 => met_J1_size K y0) q857 q98 q1824 q855 (zq q856) hd_J1_size (by decide) (by decide) rfl (by simp [zcat_rf, zcat_i, zcat_j, zcat_f, zcat_d]) (fun z hz => by cases hz) dX1_join_69 (fun r12 => ?_)
  show zS _ 72 _ [.int r12] _
  exact zs_iret hE dX1_join_72
theorem hd_X1_join : (yX1_join).cls ≠ "java/lang/invoke/MethodHandle" ∧ (yX1_join).cls ≠ "java/lang/invoke/VarHandle" ∧ (parseMethodDescriptor (yX1_join).desc).map (fun d => d.parameters.length) = some 1 := by decide +kernel
theorem met_X1_join (K : ZK) (this : Nat) (a1 : Int32) : zMeth K yX1_join (zws yX1_join cX1_join 2 (Option.some Jvm.ClassFile.FieldType.int)) 11 318 [.ref this, .int a1] encI (s_X1_join K this a1) :=
  fun l G hl hK => zmet_of hl hK (by decide +kernel) rfl rfl (by simp [zsl_nil, zsl_rf, zsl_r, zsl_i, zsl_j, zsl_f, zsl_d]) (fun x hE => by simp only [zla_nil, zla_rf, zla_r, zla_i, zla_j, zla_f, zla_d, Nat.reduceAdd]; exact sm_X1_join hE this a1)
theorem sm_X0_join {x : ZX Int32} {K : ZK} (hE : zE x K cX0_join RX0 "join" 4 12 339 encI (Option.some Jvm.ClassFile.FieldType.int) (tableOf [((0 : Nat), (9 : Nat), (12 : Nat), (13 : Nat))])) (a1 : Option Nat) (a2 : Int32) (a3 : Option Nat) : zS x 0 [(0, va_rf a1), (1, .int a2), (2, va_rf a3)] [] (s_X0_join K a1 a2 a3) := by
  unfold s_X0_join
  refine zs_aload_n hE 2 rfl rfl dX0_join_0 ?_
  refine zs_iconst hE (v := (0 : Int32)) (by decide) dX0_join_1 ?_
  refine zs_aload_n hE 0 rfl rfl dX0_join_2 ?_
  refine zs_iload_n hE 1 rfl rfl dX0_join_3 ?_
  refine zs_callVT hE (As := [.int a2]) (encA := encI) (ci := 24) rfl (fun y0 => met_X1_join K y0 a2) q1769 q95 q1766 q1767 (zq q1768) hd_X1_join (by decide) (by decide) rfl (by simp [zcat_rf, zcat_i, zcat_j, zcat_f, zcat_d]) (zhl_cons (zhnd (tableOf []) (tableOf []) ⟨0, 9, 12, 13⟩ rfl (fun w hw => by cases hw) (by decide) (by decide) q1765 (zn q1802 rfl) (fun q1 => ?_)) zhl_nil) dX0_join_4 (fun r2 => ?_)
  · have hE := zE_q q1 0 hE
    have hq := zqin_q (x := x) q1 0
    refine zs_astore_n hE (i := 3) (q := 3) rfl (by decide) (zcat_rf a3) (lv' := [(0, va_rf a1), (1, .int a2), (2, va_rf a3)]) rfl dX0_join_12 ?_
    refine zs_iconst hE (v := (1 : Int32)) (by decide) dX0_join_13 ?_
    exact zs_iret hE dX0_join_14
  · show zS _ 7 _ [.int r2, .int (0 : Int32), va_rf a3] _
    refine zs_i2l hE dX0_join_7 ?_
    refine zs_astJ hE dX0_join_8 ?_
    refine zs_goto hE 15 (by decide) dX0_join_9 ?_
    refine zs_iconst hE (v := (0 : Int32)) (by decide) dX0_join_15 ?_
    exact zs_iret hE dX0_join_16
theorem hd_X0_join : (yX0_join).cls ≠ "java/lang/invoke/MethodHandle" ∧ (yX0_join).cls ≠ "java/lang/invoke/VarHandle" ∧ (parseMethodDescriptor (yX0_join).desc).map (fun d => d.parameters.length) = some 3 := by decide +kernel
theorem met_X0_join (K : ZK) (a1 : Option Nat) (a2 : Int32) (a3 : Option Nat) : zMeth K yX0_join (zwsW yX0_join cX0_join 4 (Option.some Jvm.ClassFile.FieldType.int) [((0 : Nat), (9 : Nat), (12 : Nat), (13 : Nat))]) 12 339 [va_rf a1, .int a2, va_rf a3] encI (s_X0_join K a1 a2 a3) :=
  fun l G hl hK => zmet_ofH hl hK (by decide +kernel) rfl rfl (by simp [zsl_nil, zsl_rf, zsl_r, zsl_i, zsl_j, zsl_f, zsl_d]) (fun x hE => by simp only [zla_nil, zla_rf, zla_r, zla_i, zla_j, zla_f, zla_d, Nat.reduceAdd]; exact sm_X0_join hE a1 a2 a3)
theorem sm_J1_get {x : ZX (Option Nat)} {K : ZK} (hE : zE x K cJ1_get RJ1 "get" 3 5 187 encR (Option.some (Jvm.ClassFile.FieldType.object "java/lang/Object")) []) (this : Nat) (a1 : Option Nat) : zS x 0 [(0, va_rf (some this)), (1, va_rf a1)] [] (s_J1_get K this a1) := by
  unfold s_J1_get
  refine zs_aload_n hE 0 rfl rfl dJ1_get_0 ?_
  refine zs_aload_n hE 1 rfl rfl dJ1_get_1 ?_
  refine zs_callV hE (As := [va_rf a1]) (encA := encR) (ci := 0) rfl (fun y0 => met_J1_getEntry K y0 a1) q1019 q98 q1016 q1017 (zq q1018) hd_J1_getEntry (by decide) (by decide) rfl (by simp [zcat_rf, zcat_i, zcat_j, zcat_f, zcat_d]) (fun z hz => by cases hz) dJ1_get_2 (fun r1 => ?_)
  show zS _ 5 _ [va_rf r1] _
  refine zs_astore_n hE (i := 2) (q := 2) rfl (by decide) (zcat_rf a1) (lv' := [(0, va_rf (some this)), (1, va_rf a1)]) rfl dJ1_get_5 ?_
  refine zs_aload_n hE 0 rfl rfl dJ1_get_6 ?_
  refine zs_ifnonnull hE 14 (by decide) dJ1_get_7 ?_ ?_
  · refine zs_null hE dJ1_get_10 ?_
    refine zs_goto hE 18 (by decide) dJ1_get_11 ?_
    exact zs_aret hE (Or.inl ⟨_, rfl⟩) dJ1_get_18
  · refine zs_aload_n hE 0 rfl rfl dJ1_get_14 ?_
    refine zs_getR hE (ci := 12) (k := 1) rfl (by decide) in_J33 (Or.inl q1675) (Or.inl rfl) dJ1_get_15 (fun v2 => ?_)
    exact zs_aret hE (Or.inl ⟨_, rfl⟩) dJ1_get_18
theorem hd_J1_get : (yJ1_get).cls ≠ "java/lang/invoke/MethodHandle" ∧ (yJ1_get).cls ≠ "java/lang/invoke/VarHandle" ∧ (parseMethodDescriptor (yJ1_get).desc).map (fun d => d.parameters.length) = some 1 := by decide +kernel
theorem met_J1_get (K : ZK) (this : Nat) (a1 : Option Nat) : zMeth K yJ1_get (zws yJ1_get cJ1_get 3 (Option.some (Jvm.ClassFile.FieldType.object "java/lang/Object"))) 5 187 [.ref this, va_rf a1] encR (s_J1_get K this a1) :=
  fun l G hl hK => zmet_of hl hK (by decide +kernel) rfl rfl (by simp [zsl_nil, zsl_rf, zsl_r, zsl_i, zsl_j, zsl_f, zsl_d]) (fun x hE => by simp only [zla_nil, zla_rf, zla_r, zla_i, zla_j, zla_f, zla_d, Nat.reduceAdd]; exact sm_J1_get hE this a1)
