/-! SIM-LAYER, written by gen/dec.py -/
theorem sm_X1_stationFor_J14 {x : ZX (Option Nat)} {K : ZK} (hE : zE x K cX1_stationFor RX1 "stationFor" 2 7 229 encR (Option.some (Jvm.ClassFile.FieldType.object "TokenRing$Station")) []) (x0 : Nat) (x1 : Int32) (t0 : Int32) (t1 : Nat) : zS x 14 [(0, va_rf (some x0)), (1, .int x1)] [.int t0, va_rf (some t1)] (s_X1_stationFor_J14 K x0 x1 t0 t1) := by
  unfold s_X1_stationFor_J14
  refine zs_iconst hE (v := (3 : Int32)) (by decide) dX1_stationFor_14 ?_
  refine zs_iload_n hE 1 rfl rfl dX1_stationFor_15 ?_
  refine zs_callV hE (As := [.int t0, .int (3 : Int32), .int x1]) (encA := encV) (ci := 24) rfl (fun y0 => met_X1_refuse K y0 t0 (3 : Int32) x1) q1780 q95 q1777 q1779 (zq qs11) hd_X1_refuse (by decide) (by decide) rfl (by simp [zcat_rf, zcat_i, zcat_j, zcat_f, zcat_d]) (fun z hz => by cases hz) dX1_stationFor_16 (fun _ => ?_)
  show zS _ 19 _ [] _
  refine zs_aload_n hE 0 rfl rfl dX1_stationFor_19 ?_
  refine zs_getR hE (ci := 24) (k := 0) rfl (by decide) in_X1 (Or.inl q391) (Or.inl rfl) dX1_stationFor_20 (fun v2 => ?_)
  refine zs_getR hE (ci := 34) (k := 0) rfl (by decide) in_X2 (Or.inr ⟨_, zn q218 rfl⟩) (Or.inl rfl) dX1_stationFor_23 (fun v3 => ?_)
  refine zs_iload_n hE 1 rfl rfl dX1_stationFor_26 ?_
  refine zs_callS hE (As := [.int x1]) (encA := encR) (met_J13_valueOf K x1) q904 q112 q1819 q903 hd_J13_valueOf (by decide) (by decide) rfl (by simp [zcat_rf, zcat_i, zcat_j, zcat_f, zcat_d]) (fun z hz => by cases hz) dX1_stationFor_27 (fun r4 => ?_)
  show zS _ 30 _ [va_rf r4, va_rf v3] _
  refine zs_callV hE (As := [va_rf r4]) (encA := encR) (ci := 0) rfl (fun y0 => met_J1_get K y0 r4) q1015 q98 q1893 q1013 (zq q1014) hd_J1_get (by decide) (by decide) rfl (by simp [zcat_rf, zcat_i, zcat_j, zcat_f, zcat_d]) (fun z hz => by cases hz) dX1_stationFor_30 (fun r5 => ?_)
  show zS _ 33 _ [va_rf r5] _
  refine zs_cast hE q1392 (zc1 rfl (Or.inl rfl)) dX1_stationFor_33 ?_
  exact zs_aret hE (Or.inl ⟨_, rfl⟩) dX1_stationFor_36
theorem sm_X1_stationFor {x : ZX (Option Nat)} {K : ZK} (hE : zE x K cX1_stationFor RX1 "stationFor" 2 7 229 encR (Option.some (Jvm.ClassFile.FieldType.object "TokenRing$Station")) []) (this : Nat) (a1 : Int32) : zS x 0 [(0, va_rf (some this)), (1, .int a1)] [] (s_X1_stationFor K this a1) := by
  unfold s_X1_stationFor
  refine zs_aload_n hE 0 rfl rfl dX1_stationFor_0 ?_
  refine zs_aload_n hE 0 rfl rfl dX1_stationFor_1 ?_
  refine zs_iload_n hE 1 rfl rfl dX1_stationFor_2 ?_
  refine zs_callV hE (As := [.int a1]) (encA := encI) (ci := 24) rfl (fun y0 => met_X1_isStation K y0 a1) q1818 q95 q1815 q1817 (zq qs12) hd_X1_isStation (by decide) (by decide) rfl (by simp [zcat_rf, zcat_i, zcat_j, zcat_f, zcat_d]) (fun z hz => by cases hz) dX1_stationFor_3 (fun r1 => ?_)
  show zS _ 6 _ [.int r1, va_rf (some this)] _
  refine zs_if_ne hE 13 (by decide) dX1_stationFor_6 ?_ ?_
  · refine zs_iconst hE (v := (1 : Int32)) (by decide) dX1_stationFor_9 ?_
    refine zs_goto hE 14 (by decide) dX1_stationFor_10 ?_
    exact sm_X1_stationFor_J14 hE this a1 (1 : Int32) this
  · refine zs_iconst hE (v := (0 : Int32)) (by decide) dX1_stationFor_13 ?_
    exact sm_X1_stationFor_J14 hE this a1 (0 : Int32) this
theorem hd_X1_stationFor : (yX1_stationFor).cls ≠ "java/lang/invoke/MethodHandle" ∧ (yX1_stationFor).cls ≠ "java/lang/invoke/VarHandle" ∧ (parseMethodDescriptor (yX1_stationFor).desc).map (fun d => d.parameters.length) = some 1 := by decide +kernel
theorem met_X1_stationFor (K : ZK) (this : Nat) (a1 : Int32) : zMeth K yX1_stationFor (zws yX1_stationFor cX1_stationFor 2 (Option.some (Jvm.ClassFile.FieldType.object "TokenRing$Station"))) 7 229 [.ref this, .int a1] encR (s_X1_stationFor K this a1) :=
  fun l G hl hK => zmet_of hl hK (by decide +kernel) rfl rfl (by simp [zsl_nil, zsl_rf, zsl_r, zsl_i, zsl_j, zsl_f, zsl_d]) (fun x hE => by simp only [zla_nil, zla_rf, zla_r, zla_i, zla_j, zla_f, zla_d, Nat.reduceAdd]; exact sm_X1_stationFor hE this a1)
theorem sm_J31_size {x : ZX Int32} {K : ZK} (hE : zE x K cJ31_size RJ31 "size" 1 1 100 encI (Option.some Jvm.ClassFile.FieldType.int) []) (this : Nat) : zS x 0 [(0, va_rf (some this))] [] (s_J31_size K this) := by
  unfold s_J31_size
  refine zs_aload_n hE 0 rfl rfl dJ31_size_0 ?_
  refine zs_getI hE (ci := 11) (k := 2) rfl (by decide) in_J31 (Or.inl q1534) (Or.inl rfl) dJ31_size_1 (fun v1 => ?_)
  exact zs_iret hE dJ31_size_4
theorem hd_J31_size : (yJ31_size).cls ≠ "java/lang/invoke/MethodHandle" ∧ (yJ31_size).cls ≠ "java/lang/invoke/VarHandle" ∧ (parseMethodDescriptor (yJ31_size).desc).map (fun d => d.parameters.length) = some 0 := by decide +kernel
theorem met_J31_size (K : ZK) (this : Nat) : zMeth K yJ31_size (zws yJ31_size cJ31_size 1 (Option.some Jvm.ClassFile.FieldType.int)) 1 100 [.ref this] encI (s_J31_size K this) :=
  fun l G hl hK => zmet_of hl hK (by decide +kernel) rfl rfl (by simp [zsl_nil, zsl_rf, zsl_r, zsl_i, zsl_j, zsl_f, zsl_d]) (fun x hE => by simp only [zla_nil, zla_rf, zla_r, zla_i, zla_j, zla_f, zla_d, Nat.reduceAdd]; exact sm_J31_size hE this)
theorem sm_J1_getHigherEntry_B64 {x : ZX (Option Nat)} {K : ZK} (hE : zE x K cJ1_getHigherEntry RJ1 "getHigherEntry" 6 5 185 encR (Option.some (Jvm.ClassFile.FieldType.object "java/util/TreeMap$Entry")) []) (self64 : (Option Nat × Option Nat) → ZP (Option Nat)) (hs64 : ∀ v : Option Nat × Option Nat, zS x 64 [(4, va_rf v.1), (5, va_rf v.2)] [] (self64 v)) (x4 : Option Nat) (x5 : Option Nat) : zS x 64 [(4, va_rf x4), (5, va_rf x5)] [] (s_J1_getHigherEntry_B64 K self64 x4 x5) := by
  unfold s_J1_getHigherEntry_B64
  refine zs_aload hE 0 rfl dJ1_getHigherEntry_64 ?_
  refine zs_ifnull hE 93 (by decide) dJ1_getHigherEntry_66 ?_ ?_
  · refine zs_aload hE 0 rfl dJ1_getHigherEntry_93 ?_
    exact zs_aret hE (Or.inl ⟨_, rfl⟩) dJ1_getHigherEntry_95
  · refine zs_aload hE 1 rfl dJ1_getHigherEntry_69 ?_
    refine zs_aload hE 0 rfl dJ1_getHigherEntry_71 ?_
    refine zs_getR hE (ci := 12) (k := 3) rfl (by decide) in_J33 (Or.inl q1677) (Or.inl rfl) dJ1_getHigherEntry_73 (fun v6 => ?_)
    refine zs_acmp_ne hE 93 (by decide) dJ1_getHigherEntry_76 ?_ ?_
    · refine zs_aload hE 0 rfl dJ1_getHigherEntry_79 ?_
      refine zs_astore hE (i := 5) (by decide) (zcat_rf x4) (lv' := [(4, va_rf x4)]) rfl dJ1_getHigherEntry_81 ?_
      refine zs_aload hE 1 rfl dJ1_getHigherEntry_83 ?_
      refine zs_getR hE (ci := 12) (k := 4) rfl (by decide) in_J33 (Or.inl q1679) (Or.inl rfl) dJ1_getHigherEntry_85 (fun v7 => ?_)
      refine zs_astore hE (i := 4) (by decide) (trivial) (lv' := [(5, va_rf x4)]) rfl dJ1_getHigherEntry_88 ?_
      refine zs_goto hE 64 (by decide) dJ1_getHigherEntry_90 ?_
      exact hs64 (v7, x4)
    · refine zs_aload hE 0 rfl dJ1_getHigherEntry_93 ?_
      exact zs_aret hE (Or.inl ⟨_, rfl⟩) dJ1_getHigherEntry_95
theorem sm_J1_getHigherEntry_L64 {x : ZX (Option Nat)} {K : ZK} (hE : zE x K cJ1_getHigherEntry RJ1 "getHigherEntry" 6 5 185 encR (Option.some (Jvm.ClassFile.FieldType.object "java/util/TreeMap$Entry")) []) (v : Option Nat × Option Nat) : zS x 64 [(4, va_rf v.1), (5, va_rf v.2)] [] (s_J1_getHigherEntry_L64 K v) := by
  unfold s_J1_getHigherEntry_L64
  exact zs_loop (lvf := fun v => [(4, va_rf v.1), (5, va_rf v.2)]) (fun self64 hs64 v => sm_J1_getHigherEntry_B64 hE self64 hs64 v.1 v.2) v
theorem sm_J1_getHigherEntry_B5 {x : ZX (Option Nat)} {K : ZK} (hE : zE x K cJ1_getHigherEntry RJ1 "getHigherEntry" 6 5 185 encR (Option.some (Jvm.ClassFile.FieldType.object "java/util/TreeMap$Entry")) []) (x0 : Nat) (x1 : Option Nat) (self5 : (Option Nat) → ZP (Option Nat)) (hs5 : ∀ v : Option Nat, zS x 5 [(0, va_rf (some x0)), (1, va_rf x1), (2, va_rf v)] [] (self5 v)) (x2 : Option Nat) : zS x 5 [(0, va_rf (some x0)), (1, va_rf x1), (2, va_rf x2)] [] (s_J1_getHigherEntry_B5 K x0 x1 self5 x2) := by
  unfold s_J1_getHigherEntry_B5
  refine zs_aload_n hE 2 rfl rfl dJ1_getHigherEntry_5 ?_
  refine zs_ifnull hE 99 (by decide) dJ1_getHigherEntry_6 ?_ ?_
  · refine zs_null hE dJ1_getHigherEntry_99 ?_
    exact zs_aret hE (Or.inl ⟨_, rfl⟩) dJ1_getHigherEntry_100
  · refine zs_aload_n hE 0 rfl rfl dJ1_getHigherEntry_9 ?_
    refine zs_aload_n hE 1 rfl rfl dJ1_getHigherEntry_10 ?_
    refine zs_aload_n hE 2 rfl rfl dJ1_getHigherEntry_11 ?_
    refine zs_getR hE (ci := 12) (k := 0) rfl (by decide) in_J33 (Or.inl q1672) (Or.inl rfl) dJ1_getHigherEntry_12 (fun v2 => ?_)
    refine zs_callV hE (As := [va_rf x1, va_rf v2]) (encA := encI) (ci := 0) rfl (fun y0 => met_J1_compare K y0 x1 v2) q524 q98 q521 q522 (zq q523) hd_J1_compare (by decide) (by decide) rfl (by simp [zcat_rf, zcat_i, zcat_j, zcat_f, zcat_d]) (fun z hz => by cases hz) dJ1_getHigherEntry_15 (fun r3 => ?_)
    show zS _ 18 _ [.int r3] _
    refine zs_istore_n hE (i := 3) (q := 3) rfl (by decide) (zcat_rf x2) (lv' := [(0, va_rf (some x0)), (1, va_rf x1), (2, va_rf x2)]) rfl dJ1_getHigherEntry_18 ?_
    refine zs_iload_n hE 0 rfl rfl dJ1_getHigherEntry_19 ?_
    refine zs_if_ge hE 40 (by decide) dJ1_getHigherEntry_20 ?_ ?_
    · refine zs_aload_n hE 3 rfl rfl dJ1_getHigherEntry_40 ?_
      refine zs_getR hE (ci := 12) (k := 3) rfl (by decide) in_J33 (Or.inl q1677) (Or.inl rfl) dJ1_getHigherEntry_41 (fun v4 => ?_)
      refine zs_ifnull hE 55 (by decide) dJ1_getHigherEntry_44 ?_ ?_
      · refine zs_aload_n hE 3 rfl rfl dJ1_getHigherEntry_55 ?_
        refine zs_getR hE (ci := 12) (k := 4) rfl (by decide) in_J33 (Or.inl q1679) (Or.inl rfl) dJ1_getHigherEntry_56 (fun v5 => ?_)
        refine zs_astore hE (i := 4) (by decide) (rfl) (lv' := [(3, .int r3), (0, va_rf (some x0)), (1, va_rf x1), (2, va_rf x2)]) rfl dJ1_getHigherEntry_59 ?_
        refine zs_aload_n hE 4 rfl rfl dJ1_getHigherEntry_61 ?_
        refine zs_astore hE (i := 5) (by decide) (zcat_rf v5) (lv' := [(4, va_rf v5), (3, .int r3), (0, va_rf (some x0)), (1, va_rf x1), (2, va_rf x2)]) rfl dJ1_getHigherEntry_62 ?_
        refine zs_sub [1, 0] rfl ?_
        exact sm_J1_getHigherEntry_L64 hE (v5, x2)
      · refine zs_aload_n hE 3 rfl rfl dJ1_getHigherEntry_47 ?_
        refine zs_getR hE (ci := 12) (k := 3) rfl (by decide) in_J33 (Or.inl q1677) (Or.inl rfl) dJ1_getHigherEntry_48 (fun v8 => ?_)
        refine zs_astore_n hE (i := 2) (q := 2) rfl (by decide) (zcat_rf x1) (lv' := [(3, .int r3), (0, va_rf (some x0)), (1, va_rf x1)]) rfl dJ1_getHigherEntry_51 ?_
        refine zs_goto hE 96 (by decide) dJ1_getHigherEntry_52 ?_
        refine zs_goto hE 5 (by decide) dJ1_getHigherEntry_96 ?_
        refine zs_sub [2, 3, 0] rfl ?_
        exact hs5 v8
    · refine zs_aload_n hE 3 rfl rfl dJ1_getHigherEntry_23 ?_
      refine zs_getR hE (ci := 12) (k := 2) rfl (by decide) in_J33 (Or.inl q1676) (Or.inl rfl) dJ1_getHigherEntry_24 (fun v9 => ?_)
      refine zs_ifnull hE 38 (by decide) dJ1_getHigherEntry_27 ?_ ?_
      · refine zs_aload_n hE 3 rfl rfl dJ1_getHigherEntry_38 ?_
        exact zs_aret hE (Or.inl ⟨_, rfl⟩) dJ1_getHigherEntry_39
      · refine zs_aload_n hE 3 rfl rfl dJ1_getHigherEntry_30 ?_
        refine zs_getR hE (ci := 12) (k := 2) rfl (by decide) in_J33 (Or.inl q1676) (Or.inl rfl) dJ1_getHigherEntry_31 (fun v10 => ?_)
        refine zs_astore_n hE (i := 2) (q := 2) rfl (by decide) (zcat_rf x1) (lv' := [(3, .int r3), (0, va_rf (some x0)), (1, va_rf x1)]) rfl dJ1_getHigherEntry_34 ?_
        refine zs_goto hE 96 (by decide) dJ1_getHigherEntry_35 ?_
        refine zs_goto hE 5 (by decide) dJ1_getHigherEntry_96 ?_
        refine zs_sub [2, 3, 0] rfl ?_
        exact hs5 v10
theorem sm_J1_getHigherEntry_L5 {x : ZX (Option Nat)} {K : ZK} (hE : zE x K cJ1_getHigherEntry RJ1 "getHigherEntry" 6 5 185 encR (Option.some (Jvm.ClassFile.FieldType.object "java/util/TreeMap$Entry")) []) (x0 : Nat) (x1 : Option Nat) (v : Option Nat) : zS x 5 [(0, va_rf (some x0)), (1, va_rf x1), (2, va_rf v)] [] (s_J1_getHigherEntry_L5 K x0 x1 v) := by
  unfold s_J1_getHigherEntry_L5
  exact zs_loop (lvf := fun v => [(0, va_rf (some x0)), (1, va_rf x1), (2, va_rf v)]) (fun self5 hs5 v => sm_J1_getHigherEntry_B5 hE x0 x1 self5 hs5 v) v
theorem sm_J1_getHigherEntry {x : ZX (Option Nat)} {K : ZK} (hE : zE x K cJ1_getHigherEntry RJ1 "getHigherEntry" 6 5 185 encR (Option.some (Jvm.ClassFile.FieldType.object "java/util/TreeMap$Entry")) []) (this : Nat) (a1 : Option Nat) : zS x 0 [(0, va_rf (some this)), (1, va_rf a1)] [] (s_J1_getHigherEntry K this a1) := by
  unfold s_J1_getHigherEntry
  refine zs_aload_n hE 0 rfl rfl dJ1_getHigherEntry_0 ?_
  refine zs_getR hE (ci := 0) (k := 3) rfl (by decide) in_J1 (Or.inl q187) (Or.inl rfl) dJ1_getHigherEntry_1 (fun v1 => ?_)
  refine zs_astore_n hE (i := 2) (q := 2) rfl (by decide) (zcat_rf a1) (lv' := [(0, va_rf (some this)), (1, va_rf a1)]) rfl dJ1_getHigherEntry_4 ?_
  refine zs_sub [1, 2, 0] rfl ?_
  exact sm_J1_getHigherEntry_L5 hE this a1 v1
theorem hd_J1_getHigherEntry : (yJ1_getHigherEntry).cls ≠ "java/lang/invoke/MethodHandle" ∧ (yJ1_getHigherEntry).cls ≠ "java/lang/invoke/VarHandle" ∧ (parseMethodDescriptor (yJ1_getHigherEntry).desc).map (fun d => d.parameters.length) = some 1 := by decide +kernel
theorem met_J1_getHigherEntry (K : ZK) (this : Nat) (a1 : Option Nat) : zMeth K yJ1_getHigherEntry (zws yJ1_getHigherEntry cJ1_getHigherEntry 6 (Option.some (Jvm.ClassFile.FieldType.object "java/util/TreeMap$Entry"))) 5 185 [.ref this, va_rf a1] encR (s_J1_getHigherEntry K this a1) :=
  fun l G hl hK => zmet_of hl hK (by decide +kernel) rfl rfl (by simp [zsl_nil, zsl_rf, zsl_r, zsl_i, zsl_j, zsl_f, zsl_d]) (fun x hE => by simp only [zla_nil, zla_rf, zla_r, zla_i, zla_j, zla_f, zla_d, Nat.reduceAdd]; exact sm_J1_getHigherEntry hE this a1)
theorem sm_J1_keyOrNull {x : ZX (Option Nat)} {K : ZK} (hE : zE x K cJ1_keyOrNull RJ1 "keyOrNull" 1 1 100 encR (Option.some (Jvm.ClassFile.FieldType.object "java/lang/Object")) []) (a1 : Option Nat) : zS x 0 [(0, va_rf a1)] [] (s_J1_keyOrNull K a1) := by
  unfold s_J1_keyOrNull
  refine zs_aload_n hE 0 rfl rfl dJ1_keyOrNull_0 ?_
  refine zs_ifnonnull hE 8 (by decide) dJ1_keyOrNull_1 ?_ ?_
  · refine zs_null hE dJ1_keyOrNull_4 ?_
    refine zs_goto hE 12 (by decide) dJ1_keyOrNull_5 ?_
    exact zs_aret hE (Or.inl ⟨_, rfl⟩) dJ1_keyOrNull_12
  · refine zs_aload_n hE 0 rfl rfl dJ1_keyOrNull_8 ?_
    refine zs_getR hE (ci := 12) (k := 0) rfl (by decide) in_J33 (Or.inl q1672) (Or.inl rfl) dJ1_keyOrNull_9 (fun v1 => ?_)
    exact zs_aret hE (Or.inl ⟨_, rfl⟩) dJ1_keyOrNull_12
theorem hd_J1_keyOrNull : (yJ1_keyOrNull).cls ≠ "java/lang/invoke/MethodHandle" ∧ (yJ1_keyOrNull).cls ≠ "java/lang/invoke/VarHandle" ∧ (parseMethodDescriptor (yJ1_keyOrNull).desc).map (fun d => d.parameters.length) = some 1 := by decide +kernel
theorem met_J1_keyOrNull (K : ZK) (a1 : Option Nat) : zMeth K yJ1_keyOrNull (zws yJ1_keyOrNull cJ1_keyOrNull 1 (Option.some (Jvm.ClassFile.FieldType.object "java/lang/Object"))) 1 100 [va_rf a1] encR (s_J1_keyOrNull K a1) :=
  fun l G hl hK => zmet_of hl hK (by decide +kernel) rfl rfl (by simp [zsl_nil, zsl_rf, zsl_r, zsl_i, zsl_j, zsl_f, zsl_d]) (fun x hE => by simp only [zla_nil, zla_rf, zla_r, zla_i, zla_j, zla_f, zla_d, Nat.reduceAdd]; exact sm_J1_keyOrNull hE a1)
theorem sm_J1_higherKey {x : ZX (Option Nat)} {K : ZK} (hE : zE x K cJ1_higherKey RJ1 "higherKey" 2 6 210 encR (Option.some (Jvm.ClassFile.FieldType.object "java/lang/Object")) []) (this : Nat) (a1 : Option Nat) : zS x 0 [(0, va_rf (some this)), (1, va_rf a1)] [] (s_J1_higherKey K this a1) := by
  unfold s_J1_higherKey
  refine zs_aload_n hE 0 rfl rfl dJ1_higherKey_0 ?_
  refine zs_aload_n hE 1 rfl rfl dJ1_higherKey_1 ?_
  refine zs_callV hE (As := [va_rf a1]) (encA := encR) (ci := 0) rfl (fun y0 => met_J1_getHigherEntry K y0 a1) q759 q98 q925 q757 (zq q758) hd_J1_getHigherEntry (by decide) (by decide) rfl (by simp [zcat_rf, zcat_i, zcat_j, zcat_f, zcat_d]) (fun z hz => by cases hz) dJ1_higherKey_2 (fun r1 => ?_)
  show zS _ 5 _ [va_rf r1] _
  refine zs_callS hE (As := [va_rf r1]) (encA := encR) (met_J1_keyOrNull K r1) q928 q98 q926 q927 hd_J1_keyOrNull (by decide) (by decide) rfl (by simp [zcat_rf, zcat_i, zcat_j, zcat_f, zcat_d]) (fun z hz => by cases hz) dJ1_higherKey_5 (fun r2 => ?_)
  show zS _ 8 _ [va_rf r2] _
  exact zs_aret hE (Or.inl ⟨_, rfl⟩) dJ1_higherKey_8
theorem hd_J1_higherKey : (yJ1_higherKey).cls ≠ "java/lang/invoke/MethodHandle" ∧ (yJ1_higherKey).cls ≠ "java/lang/invoke/VarHandle" ∧ (parseMethodDescriptor (yJ1_higherKey).desc).map (fun d => d.parameters.length) = some 1 := by decide +kernel
theorem met_J1_higherKey (K : ZK) (this : Nat) (a1 : Option Nat) : zMeth K yJ1_higherKey (zws yJ1_higherKey cJ1_higherKey 2 (Option.some (Jvm.ClassFile.FieldType.object "java/lang/Object"))) 6 210 [.ref this, va_rf a1] encR (s_J1_higherKey K this a1) :=
  fun l G hl hK => zmet_of hl hK (by decide +kernel) rfl rfl (by simp [zsl_nil, zsl_rf, zsl_r, zsl_i, zsl_j, zsl_f, zsl_d]) (fun x hE => by simp only [zla_nil, zla_rf, zla_r, zla_i, zla_j, zla_f, zla_d, Nat.reduceAdd]; exact sm_J1_higherKey hE this a1)
theorem sm_J1_key {x : ZX (Option Nat)} {K : ZK} (hE : zE x K cJ1_key RJ1 "key" 1 1 100 encR (Option.some (Jvm.ClassFile.FieldType.object "java/lang/Object")) []) (a1 : Option Nat) : zS x 0 [(0, va_rf a1)] [] (s_J1_key K a1) := by
  unfold s_J1_key
  refine zs_aload_n hE 0 rfl rfl dJ1_key_0 ?_
  refine zs_ifnonnull hE 12 (by decide) dJ1_key_1 ?_ ?_
  · exact zs_bad
  · refine zs_aload_n hE 0 rfl rfl dJ1_key_12 ?_
    refine zs_getR hE (ci := 12) (k := 0) rfl (by decide) in_J33 (Or.inl q1672) (Or.inl rfl) dJ1_key_13 (fun v1 => ?_)
    exact zs_aret hE (Or.inl ⟨_, rfl⟩) dJ1_key_16
theorem hd_J1_key : (yJ1_key).cls ≠ "java/lang/invoke/MethodHandle" ∧ (yJ1_key).cls ≠ "java/lang/invoke/VarHandle" ∧ (parseMethodDescriptor (yJ1_key).desc).map (fun d => d.parameters.length) = some 1 := by decide +kernel
theorem met_J1_key (K : ZK) (a1 : Option Nat) : zMeth K yJ1_key (zws yJ1_key cJ1_key 1 (Option.some (Jvm.ClassFile.FieldType.object "java/lang/Object"))) 1 100 [va_rf a1] encR (s_J1_key K a1) :=
  fun l G hl hK => zmet_of hl hK (by decide +kernel) rfl rfl (by simp [zsl_nil, zsl_rf, zsl_r, zsl_i, zsl_j, zsl_f, zsl_d]) (fun x hE => by simp only [zla_nil, zla_rf, zla_r, zla_i, zla_j, zla_f, zla_d, Nat.reduceAdd]; exact sm_J1_key hE a1)
theorem sm_J1_firstKey {x : ZX (Option Nat)} {K : ZK} (hE : zE x K cJ1_firstKey RJ1 "firstKey" 1 2 121 encR (Option.some (Jvm.ClassFile.FieldType.object "java/lang/Object")) []) (this : Nat) : zS x 0 [(0, va_rf (some this))] [] (s_J1_firstKey K this) := by
  unfold s_J1_firstKey
  refine zs_aload_n hE 0 rfl rfl dJ1_firstKey_0 ?_
  refine zs_callV hE (As := []) (encA := encR) (ci := 0) rfl (fun y0 => met_J1_getFirstEntry K y0) q516 q98 q934 q514 (zq q515) hd_J1_getFirstEntry (by decide) (by decide) rfl (by simp [zcat_rf, zcat_i, zcat_j, zcat_f, zcat_d]) (fun z hz => by cases hz) dJ1_firstKey_1 (fun r1 => ?_)
  show zS _ 4 _ [va_rf r1] _
  refine zs_callS hE (As := [va_rf r1]) (encA := encR) (met_J1_key K r1) q937 q98 q935 q936 hd_J1_key (by decide) (by decide) rfl (by simp [zcat_rf, zcat_i, zcat_j, zcat_f, zcat_d]) (fun z hz => by cases hz) dJ1_firstKey_4 (fun r2 => ?_)
  show zS _ 7 _ [va_rf r2] _
  exact zs_aret hE (Or.inl ⟨_, rfl⟩) dJ1_firstKey_7
theorem hd_J1_firstKey : (yJ1_firstKey).cls ≠ "java/lang/invoke/MethodHandle" ∧ (yJ1_firstKey).cls ≠ "java/lang/invoke/VarHandle" ∧ (parseMethodDescriptor (yJ1_firstKey).desc).map (fun d => d.parameters.length) = some 0 := by decide +kernel
theorem met_J1_firstKey (K : ZK) (this : Nat) : zMeth K yJ1_firstKey (zws yJ1_firstKey cJ1_firstKey 1 (Option.some (Jvm.ClassFile.FieldType.object "java/lang/Object"))) 2 121 [.ref this] encR (s_J1_firstKey K this) :=
  fun l G hl hK => zmet_of hl hK (by decide +kernel) rfl rfl (by simp [zsl_nil, zsl_rf, zsl_r, zsl_i, zsl_j, zsl_f, zsl_d]) (fun x hE => by simp only [zla_nil, zla_rf, zla_r, zla_i, zla_j, zla_f, zla_d, Nat.reduceAdd]; exact sm_J1_firstKey hE this)
theorem sm_J13_intValue {x : ZX Int32} {K : ZK} (hE : zE x K cJ13_intValue RJ13 "intValue" 1 1 100 encI (Option.some Jvm.ClassFile.FieldType.int) []) (this : Nat) : zS x 0 [(0, va_rf (some this))] [] (s_J13_intValue K this) := by
  unfold s_J13_intValue
  refine zs_aload_n hE 0 rfl rfl dJ13_intValue_0 ?_
  refine zs_getIK hE (ci := 2) (k := 0) rfl (by decide) in_J13 (Or.inl q917) (Or.inl rfl) dJ13_intValue_1 (fun v1 => ?_)
  exact zs_iret hE dJ13_intValue_4
theorem hd_J13_intValue : (yJ13_intValue).cls ≠ "java/lang/invoke/MethodHandle" ∧ (yJ13_intValue).cls ≠ "java/lang/invoke/VarHandle" ∧ (parseMethodDescriptor (yJ13_intValue).desc).map (fun d => d.parameters.length) = some 0 := by decide +kernel
theorem met_J13_intValue (K : ZK) (this : Nat) : zMeth K yJ13_intValue (zws yJ13_intValue cJ13_intValue 1 (Option.some Jvm.ClassFile.FieldType.int)) 1 100 [.ref this] encI (s_J13_intValue K this) :=
  fun l G hl hK => zmet_of hl hK (by decide +kernel) rfl rfl (by simp [zsl_nil, zsl_rf, zsl_r, zsl_i, zsl_j, zsl_f, zsl_d]) (fun x hE => by simp only [zla_nil, zla_rf, zla_r, zla_i, zla_j, zla_f, zla_d, Nat.reduceAdd]; exact sm_J13_intValue hE this)
theorem sm_X2_next_J33 {x : ZX Int32} {K : ZK} (hE : zE x K cX2_next RX2 "next" 3 7 231 encI (Option.some Jvm.ClassFile.FieldType.int) []) (t0 : Option Nat) : zS x 33 [] [va_rf t0] (s_X2_next_J33 K t0) := by
  unfold s_X2_next_J33
  refine zs_callVK hE (As := []) (encA := encI) (ci := 2) rfl (fun y0 => met_J13_intValue K y0) q1010 q112 q1007 q1008 (zq q1009) hd_J13_intValue (by decide) (by decide) rfl (by simp [zcat_rf, zcat_i, zcat_j, zcat_f, zcat_d]) (fun z hz => by cases hz) dX2_next_33 (fun r6 => ?_)
  show zS _ 36 _ [.int r6] _
  exact zs_iret hE dX2_next_36
theorem sm_X2_next {x : ZX Int32} {K : ZK} (hE : zE x K cX2_next RX2 "next" 3 7 231 encI (Option.some Jvm.ClassFile.FieldType.int) []) (this : Nat) (a1 : Int32) : zS x 0 [(0, va_rf (some this)), (1, .int a1)] [] (s_X2_next K this a1) := by
  unfold s_X2_next
  refine zs_aload_n hE 0 rfl rfl dX2_next_0 ?_
  refine zs_getR hE (ci := 34) (k := 0) rfl (by decide) in_X2 (Or.inl q215) (Or.inl rfl) dX2_next_1 (fun v1 => ?_)
  refine zs_iload_n hE 1 rfl rfl dX2_next_4 ?_
  refine zs_callS hE (As := [.int a1]) (encA := encR) (met_J13_valueOf K a1) q904 q112 q902 q903 hd_J13_valueOf (by decide) (by decide) rfl (by simp [zcat_rf, zcat_i, zcat_j, zcat_f, zcat_d]) (fun z hz => by cases hz) dX2_next_5 (fun r2 => ?_)
  show zS _ 8 _ [va_rf r2, va_rf v1] _
  refine zs_callV hE (As := [va_rf r2]) (encA := encR) (ci := 0) rfl (fun y0 => met_J1_higherKey K y0 r2) q924 q98 q921 q922 (zq q923) hd_J1_higherKey (by decide) (by decide) rfl (by simp [zcat_rf, zcat_i, zcat_j, zcat_f, zcat_d]) (fun z hz => by cases hz) dX2_next_8 (fun r3 => ?_)
  show zS _ 11 _ [va_rf r3] _
  refine zs_castK hE q929 (zc1 rfl (Or.inl rfl)) dX2_next_11 ?_
  refine zs_astore_n hE (i := 2) (q := 2) rfl (by decide) (rfl) (lv' := [(0, va_rf (some this)), (1, .int a1)]) rfl dX2_next_14 ?_
  refine zs_aload_n hE 0 rfl rfl dX2_next_15 ?_
  refine zs_ifnonnull hE 32 (by decide) dX2_next_16 ?_ ?_
  · refine zs_aload_n hE 1 rfl rfl dX2_next_19 ?_
    refine zs_getR hE (ci := 34) (k := 0) rfl (by decide) in_X2 (Or.inl q215) (Or.inl rfl) dX2_next_20 (fun v4 => ?_)
    refine zs_callV hE (As := []) (encA := encR) (ci := 0) rfl (fun y0 => met_J1_firstKey K y0) q933 q98 q930 q931 (zq q932) hd_J1_firstKey (by decide) (by decide) rfl (by simp [zcat_rf, zcat_i, zcat_j, zcat_f, zcat_d]) (fun z hz => by cases hz) dX2_next_23 (fun r5 => ?_)
    show zS _ 26 _ [va_rf r5] _
    refine zs_castK hE q929 (zc1 rfl (Or.inl rfl)) dX2_next_26 ?_
    refine zs_goto hE 33 (by decide) dX2_next_29 ?_
    refine zs_sub [] rfl ?_
    exact sm_X2_next_J33 hE r5
  · refine zs_aload_n hE 0 rfl rfl dX2_next_32 ?_
    refine zs_sub [] rfl ?_
    exact sm_X2_next_J33 hE r3
theorem hd_X2_next : (yX2_next).cls ≠ "java/lang/invoke/MethodHandle" ∧ (yX2_next).cls ≠ "java/lang/invoke/VarHandle" ∧ (parseMethodDescriptor (yX2_next).desc).map (fun d => d.parameters.length) = some 1 := by decide +kernel
theorem met_X2_next (K : ZK) (this : Nat) (a1 : Int32) : zMeth K yX2_next (zws yX2_next cX2_next 3 (Option.some Jvm.ClassFile.FieldType.int)) 7 231 [.ref this, .int a1] encI (s_X2_next K this a1) :=
  fun l G hl hK => zmet_of hl hK (by decide +kernel) rfl rfl (by simp [zsl_nil, zsl_rf, zsl_r, zsl_i, zsl_j, zsl_f, zsl_d]) (fun x hE => by simp only [zla_nil, zla_rf, zla_r, zla_i, zla_j, zla_f, zla_d, Nat.reduceAdd]; exact sm_X2_next hE this a1)
theorem sm_J1_fixAfterDeletion_J345 {x : ZX Unit} {K : ZK} (hE : zE x K cJ1_fixAfterDeletion RJ1 "fixAfterDeletion" 3 2 122 encV none []) (x1 : Option Nat) : zS x 345 [(1, va_rf x1)] [] (s_J1_fixAfterDeletion_J345 K x1) := by
  unfold s_J1_fixAfterDeletion_J345
  refine zs_aload_n hE 0 rfl rfl dJ1_fixAfterDeletion_345 ?_
  refine zs_iconst hE (v := (1 : Int32)) (by decide) dJ1_fixAfterDeletion_346 ?_
  refine zs_callS hE (As := [va_rf x1, .int (1 : Int32)]) (encA := encV) (met_J1_setColor K x1 (1 : Int32)) q1717 q98 q1715 q1716 hd_J1_setColor (by decide) (by decide) rfl (by simp [zcat_rf, zcat_i, zcat_j, zcat_f, zcat_d]) (fun z hz => by cases hz) dJ1_fixAfterDeletion_347 (fun _ => ?_)
  show zS _ 350 _ [] _
  exact zs_vret hE dJ1_fixAfterDeletion_350
theorem sm_J1_fixAfterDeletion_J143 {x : ZX Unit} {K : ZK} (hE : zE x K cJ1_fixAfterDeletion RJ1 "fixAfterDeletion" 3 2 122 encV none []) (x0 : Nat) (x1 : Option Nat) (x2 : Option Nat) (self0 : (Option Nat) → ZP Unit) (hs0 : ∀ v : Option Nat, zS x 0 [(0, va_rf (some x0)), (1, va_rf v)] [] (self0 v)) : zS x 143 [(0, va_rf (some x0)), (1, va_rf x1), (2, va_rf x2)] [] (s_J1_fixAfterDeletion_J143 K x0 x1 x2 self0) := by
  unfold s_J1_fixAfterDeletion_J143
  refine zs_aload_n hE 2 rfl rfl dJ1_fixAfterDeletion_143 ?_
  refine zs_aload_n hE 1 rfl rfl dJ1_fixAfterDeletion_144 ?_
  refine zs_callS hE (As := [va_rf x1]) (encA := encR) (met_J1_parentOf K x1) q1705 q98 q1703 q1704 hd_J1_parentOf (by decide) (by decide) rfl (by simp [zcat_rf, zcat_i, zcat_j, zcat_f, zcat_d]) (fun z hz => by cases hz) dJ1_fixAfterDeletion_145 (fun r22 => ?_)
  show zS _ 148 _ [va_rf r22, va_rf x2] _
  refine zs_callS hE (As := [va_rf r22]) (encA := encI) (met_J1_colorOf K r22) q1714 q98 q1712 q1713 hd_J1_colorOf (by decide) (by decide) rfl (by simp [zcat_rf, zcat_i, zcat_j, zcat_f, zcat_d]) (fun z hz => by cases hz) dJ1_fixAfterDeletion_148 (fun r23 => ?_)
  show zS _ 151 _ [.int r23, va_rf x2] _
  refine zs_callS hE (As := [va_rf x2, .int r23]) (encA := encV) (met_J1_setColor K x2 r23) q1717 q98 q1715 q1716 hd_J1_setColor (by decide) (by decide) rfl (by simp [zcat_rf, zcat_i, zcat_j, zcat_f, zcat_d]) (fun z hz => by cases hz) dJ1_fixAfterDeletion_151 (fun _ => ?_)
  show zS _ 154 _ [] _
  refine zs_aload_n hE 1 rfl rfl dJ1_fixAfterDeletion_154 ?_
  refine zs_callS hE (As := [va_rf x1]) (encA := encR) (met_J1_parentOf K x1) q1705 q98 q1703 q1704 hd_J1_parentOf (by decide) (by decide) rfl (by simp [zcat_rf, zcat_i, zcat_j, zcat_f, zcat_d]) (fun z hz => by cases hz) dJ1_fixAfterDeletion_155 (fun r24 => ?_)
  show zS _ 158 _ [va_rf r24] _
  refine zs_iconst hE (v := (1 : Int32)) (by decide) dJ1_fixAfterDeletion_158 ?_
  refine zs_callS hE (As := [va_rf r24, .int (1 : Int32)]) (encA := encV) (met_J1_setColor K r24 (1 : Int32)) q1717 q98 q1715 q1716 hd_J1_setColor (by decide) (by decide) rfl (by simp [zcat_rf, zcat_i, zcat_j, zcat_f, zcat_d]) (fun z hz => by cases hz) dJ1_fixAfterDeletion_159 (fun _ => ?_)
  show zS _ 162 _ [] _
  refine zs_aload_n hE 2 rfl rfl dJ1_fixAfterDeletion_162 ?_
  refine zs_callS hE (As := [va_rf x2]) (encA := encR) (met_J1_rightOf K x2) q1711 q98 q1709 q1710 hd_J1_rightOf (by decide) (by decide) rfl (by simp [zcat_rf, zcat_i, zcat_j, zcat_f, zcat_d]) (fun z hz => by cases hz) dJ1_fixAfterDeletion_163 (fun r25 => ?_)
  show zS _ 166 _ [va_rf r25] _
  refine zs_iconst hE (v := (1 : Int32)) (by decide) dJ1_fixAfterDeletion_166 ?_
  refine zs_callS hE (As := [va_rf r25, .int (1 : Int32)]) (encA := encV) (met_J1_setColor K r25 (1 : Int32)) q1717 q98 q1715 q1716 hd_J1_setColor (by decide) (by decide) rfl (by simp [zcat_rf, zcat_i, zcat_j, zcat_f, zcat_d]) (fun z hz => by cases hz) dJ1_fixAfterDeletion_167 (fun _ => ?_)
  show zS _ 170 _ [] _
  refine zs_aload_n hE 0 rfl rfl dJ1_fixAfterDeletion_170 ?_
  refine zs_aload_n hE 1 rfl rfl dJ1_fixAfterDeletion_171 ?_
  refine zs_callS hE (As := [va_rf x1]) (encA := encR) (met_J1_parentOf K x1) q1705 q98 q1703 q1704 hd_J1_parentOf (by decide) (by decide) rfl (by simp [zcat_rf, zcat_i, zcat_j, zcat_f, zcat_d]) (fun z hz => by cases hz) dJ1_fixAfterDeletion_172 (fun r26 => ?_)
  show zS _ 175 _ [va_rf r26, va_rf (some x0)] _
  refine zs_callV hE (As := [va_rf r26]) (encA := encV) (ci := 0) rfl (fun y0 => met_J1_rotateLeft K y0 r26) q1721 q98 q1718 q1720 (zq qs8) hd_J1_rotateLeft (by decide) (by decide) rfl (by simp [zcat_rf, zcat_i, zcat_j, zcat_f, zcat_d]) (fun z hz => by cases hz) dJ1_fixAfterDeletion_175 (fun _ => ?_)
  show zS _ 178 _ [] _
  refine zs_aload_n hE 0 rfl rfl dJ1_fixAfterDeletion_178 ?_
  refine zs_getR hE (ci := 0) (k := 3) rfl (by decide) in_J1 (Or.inl q187) (Or.inl rfl) dJ1_fixAfterDeletion_179 (fun v27 => ?_)
  refine zs_astore_n hE (i := 1) (q := 1) rfl (by decide) (zcat_rf (some x0)) (lv' := [(0, va_rf (some x0)), (2, va_rf x2)]) rfl dJ1_fixAfterDeletion_182 ?_
  refine zs_goto hE 0 (by decide) dJ1_fixAfterDeletion_183 ?_
  refine zs_sub [1, 0] rfl ?_
  exact hs0 v27
theorem sm_J1_fixAfterDeletion_J106 {x : ZX Unit} {K : ZK} (hE : zE x K cJ1_fixAfterDeletion RJ1 "fixAfterDeletion" 3 2 122 encV none []) (x0 : Nat) (x1 : Option Nat) (x2 : Option Nat) (self0 : (Option Nat) → ZP Unit) (hs0 : ∀ v : Option Nat, zS x 0 [(0, va_rf (some x0)), (1, va_rf v)] [] (self0 v)) : zS x 106 [(0, va_rf (some x0)), (1, va_rf x1), (2, va_rf x2)] [] (s_J1_fixAfterDeletion_J106 K x0 x1 x2 self0) := by
  unfold s_J1_fixAfterDeletion_J106
  refine zs_aload_n hE 2 rfl rfl dJ1_fixAfterDeletion_106 ?_
  refine zs_callS hE (As := [va_rf x2]) (encA := encR) (met_J1_rightOf K x2) q1711 q98 q1709 q1710 hd_J1_rightOf (by decide) (by decide) rfl (by simp [zcat_rf, zcat_i, zcat_j, zcat_f, zcat_d]) (fun z hz => by cases hz) dJ1_fixAfterDeletion_107 (fun r17 => ?_)
  show zS _ 110 _ [va_rf r17] _
  refine zs_callS hE (As := [va_rf r17]) (encA := encI) (met_J1_colorOf K r17) q1714 q98 q1712 q1713 hd_J1_colorOf (by decide) (by decide) rfl (by simp [zcat_rf, zcat_i, zcat_j, zcat_f, zcat_d]) (fun z hz => by cases hz) dJ1_fixAfterDeletion_110 (fun r18 => ?_)
  show zS _ 113 _ [.int r18] _
  refine zs_iconst hE (v := (1 : Int32)) (by decide) dJ1_fixAfterDeletion_113 ?_
  refine zs_icmp_ne hE 143 (by decide) dJ1_fixAfterDeletion_114 ?_ ?_
  · refine zs_aload_n hE 2 rfl rfl dJ1_fixAfterDeletion_117 ?_
    refine zs_callS hE (As := [va_rf x2]) (encA := encR) (met_J1_leftOf K x2) q1708 q98 q1706 q1707 hd_J1_leftOf (by decide) (by decide) rfl (by simp [zcat_rf, zcat_i, zcat_j, zcat_f, zcat_d]) (fun z hz => by cases hz) dJ1_fixAfterDeletion_118 (fun r19 => ?_)
    show zS _ 121 _ [va_rf r19] _
    refine zs_iconst hE (v := (1 : Int32)) (by decide) dJ1_fixAfterDeletion_121 ?_
    refine zs_callS hE (As := [va_rf r19, .int (1 : Int32)]) (encA := encV) (met_J1_setColor K r19 (1 : Int32)) q1717 q98 q1715 q1716 hd_J1_setColor (by decide) (by decide) rfl (by simp [zcat_rf, zcat_i, zcat_j, zcat_f, zcat_d]) (fun z hz => by cases hz) dJ1_fixAfterDeletion_122 (fun _ => ?_)
    show zS _ 125 _ [] _
    refine zs_aload_n hE 2 rfl rfl dJ1_fixAfterDeletion_125 ?_
    refine zs_iconst hE (v := (0 : Int32)) (by decide) dJ1_fixAfterDeletion_126 ?_
    refine zs_callS hE (As := [va_rf x2, .int (0 : Int32)]) (encA := encV) (met_J1_setColor K x2 (0 : Int32)) q1717 q98 q1715 q1716 hd_J1_setColor (by decide) (by decide) rfl (by simp [zcat_rf, zcat_i, zcat_j, zcat_f, zcat_d]) (fun z hz => by cases hz) dJ1_fixAfterDeletion_127 (fun _ => ?_)
    show zS _ 130 _ [] _
    refine zs_aload_n hE 0 rfl rfl dJ1_fixAfterDeletion_130 ?_
    refine zs_aload_n hE 2 rfl rfl dJ1_fixAfterDeletion_131 ?_
    refine zs_callV hE (As := [va_rf x2]) (encA := encV) (ci := 0) rfl (fun y0 => met_J1_rotateRight K y0 x2) q1725 q98 q1722 q1724 (zq qs9) hd_J1_rotateRight (by decide) (by decide) rfl (by simp [zcat_rf, zcat_i, zcat_j, zcat_f, zcat_d]) (fun z hz => by cases hz) dJ1_fixAfterDeletion_132 (fun _ => ?_)
    show zS _ 135 _ [] _
    refine zs_aload_n hE 1 rfl rfl dJ1_fixAfterDeletion_135 ?_
    refine zs_callS hE (As := [va_rf x1]) (encA := encR) (met_J1_parentOf K x1) q1705 q98 q1703 q1704 hd_J1_parentOf (by decide) (by decide) rfl (by simp [zcat_rf, zcat_i, zcat_j, zcat_f, zcat_d]) (fun z hz => by cases hz) dJ1_fixAfterDeletion_136 (fun r20 => ?_)
    show zS _ 139 _ [va_rf r20] _
    refine zs_callS hE (As := [va_rf r20]) (encA := encR) (met_J1_rightOf K r20) q1711 q98 q1709 q1710 hd_J1_rightOf (by decide) (by decide) rfl (by simp [zcat_rf, zcat_i, zcat_j, zcat_f, zcat_d]) (fun z hz => by cases hz) dJ1_fixAfterDeletion_139 (fun r21 => ?_)
    show zS _ 142 _ [va_rf r21] _
    refine zs_astore_n hE (i := 2) (q := 2) rfl (by decide) (zcat_rf x1) (lv' := [(0, va_rf (some x0)), (1, va_rf x1)]) rfl dJ1_fixAfterDeletion_142 ?_
    refine zs_sub [1, 2, 0] rfl ?_
    exact sm_J1_fixAfterDeletion_J143 hE x0 x1 r21 self0 hs0
  · exact sm_J1_fixAfterDeletion_J143 hE x0 x1 x2 self0 hs0
theorem sm_J1_fixAfterDeletion_J71 {x : ZX Unit} {K : ZK} (hE : zE x K cJ1_fixAfterDeletion RJ1 "fixAfterDeletion" 3 2 122 encV none []) (x0 : Nat) (x1 : Option Nat) (x2 : Option Nat) (self0 : (Option Nat) → ZP Unit) (hs0 : ∀ v : Option Nat, zS x 0 [(0, va_rf (some x0)), (1, va_rf v)] [] (self0 v)) : zS x 71 [(0, va_rf (some x0)), (1, va_rf x1), (2, va_rf x2)] [] (s_J1_fixAfterDeletion_J71 K x0 x1 x2 self0) := by
  unfold s_J1_fixAfterDeletion_J71
  refine zs_aload_n hE 2 rfl rfl dJ1_fixAfterDeletion_71 ?_
  refine zs_callS hE (As := [va_rf x2]) (encA := encR) (met_J1_leftOf K x2) q1708 q98 q1706 q1707 hd_J1_leftOf (by decide) (by decide) rfl (by simp [zcat_rf, zcat_i, zcat_j, zcat_f, zcat_d]) (fun z hz => by cases hz) dJ1_fixAfterDeletion_72 (fun r12 => ?_)
  show zS _ 75 _ [va_rf r12] _
  refine zs_callS hE (As := [va_rf r12]) (encA := encI) (met_J1_colorOf K r12) q1714 q98 q1712 q1713 hd_J1_colorOf (by decide) (by decide) rfl (by simp [zcat_rf, zcat_i, zcat_j, zcat_f, zcat_d]) (fun z hz => by cases hz) dJ1_fixAfterDeletion_75 (fun r13 => ?_)
  show zS _ 78 _ [.int r13] _
  refine zs_iconst hE (v := (1 : Int32)) (by decide) dJ1_fixAfterDeletion_78 ?_
  refine zs_icmp_ne hE 106 (by decide) dJ1_fixAfterDeletion_79 ?_ ?_
  · refine zs_aload_n hE 2 rfl rfl dJ1_fixAfterDeletion_82 ?_
    refine zs_callS hE (As := [va_rf x2]) (encA := encR) (met_J1_rightOf K x2) q1711 q98 q1709 q1710 hd_J1_rightOf (by decide) (by decide) rfl (by simp [zcat_rf, zcat_i, zcat_j, zcat_f, zcat_d]) (fun z hz => by cases hz) dJ1_fixAfterDeletion_83 (fun r14 => ?_)
    show zS _ 86 _ [va_rf r14] _
    refine zs_callS hE (As := [va_rf r14]) (encA := encI) (met_J1_colorOf K r14) q1714 q98 q1712 q1713 hd_J1_colorOf (by decide) (by decide) rfl (by simp [zcat_rf, zcat_i, zcat_j, zcat_f, zcat_d]) (fun z hz => by cases hz) dJ1_fixAfterDeletion_86 (fun r15 => ?_)
    show zS _ 89 _ [.int r15] _
    refine zs_iconst hE (v := (1 : Int32)) (by decide) dJ1_fixAfterDeletion_89 ?_
    refine zs_icmp_ne hE 106 (by decide) dJ1_fixAfterDeletion_90 ?_ ?_
    · refine zs_aload_n hE 2 rfl rfl dJ1_fixAfterDeletion_93 ?_
      refine zs_iconst hE (v := (0 : Int32)) (by decide) dJ1_fixAfterDeletion_94 ?_
      refine zs_callS hE (As := [va_rf x2, .int (0 : Int32)]) (encA := encV) (met_J1_setColor K x2 (0 : Int32)) q1717 q98 q1715 q1716 hd_J1_setColor (by decide) (by decide) rfl (by simp [zcat_rf, zcat_i, zcat_j, zcat_f, zcat_d]) (fun z hz => by cases hz) dJ1_fixAfterDeletion_95 (fun _ => ?_)
      show zS _ 98 _ [] _
      refine zs_aload_n hE 1 rfl rfl dJ1_fixAfterDeletion_98 ?_
      refine zs_callS hE (As := [va_rf x1]) (encA := encR) (met_J1_parentOf K x1) q1705 q98 q1703 q1704 hd_J1_parentOf (by decide) (by decide) rfl (by simp [zcat_rf, zcat_i, zcat_j, zcat_f, zcat_d]) (fun z hz => by cases hz) dJ1_fixAfterDeletion_99 (fun r16 => ?_)
      show zS _ 102 _ [va_rf r16] _
      refine zs_astore_n hE (i := 1) (q := 1) rfl (by decide) (zcat_rf (some x0)) (lv' := [(0, va_rf (some x0)), (2, va_rf x2)]) rfl dJ1_fixAfterDeletion_102 ?_
      refine zs_goto hE 183 (by decide) dJ1_fixAfterDeletion_103 ?_
      refine zs_goto hE 0 (by decide) dJ1_fixAfterDeletion_183 ?_
      refine zs_sub [1, 0] rfl ?_
      exact hs0 r16
    · exact sm_J1_fixAfterDeletion_J106 hE x0 x1 x2 self0 hs0
  · exact sm_J1_fixAfterDeletion_J106 hE x0 x1 x2 self0 hs0
theorem sm_J1_fixAfterDeletion_J302 {x : ZX Unit} {K : ZK} (hE : zE x K cJ1_fixAfterDeletion RJ1 "fixAfterDeletion" 3 2 122 encV none []) (x0 : Nat) (x1 : Option Nat) (x2 : Option Nat) (self0 : (Option Nat) → ZP Unit) (hs0 : ∀ v : Option Nat, zS x 0 [(0, va_rf (some x0)), (1, va_rf v)] [] (self0 v)) : zS x 302 [(0, va_rf (some x0)), (1, va_rf x1), (2, va_rf x2)] [] (s_J1_fixAfterDeletion_J302 K x0 x1 x2 self0) := by
  unfold s_J1_fixAfterDeletion_J302
  refine zs_aload_n hE 2 rfl rfl dJ1_fixAfterDeletion_302 ?_
  refine zs_aload_n hE 1 rfl rfl dJ1_fixAfterDeletion_303 ?_
  refine zs_callS hE (As := [va_rf x1]) (encA := encR) (met_J1_parentOf K x1) q1705 q98 q1703 q1704 hd_J1_parentOf (by decide) (by decide) rfl (by simp [zcat_rf, zcat_i, zcat_j, zcat_f, zcat_d]) (fun z hz => by cases hz) dJ1_fixAfterDeletion_304 (fun r45 => ?_)
  show zS _ 307 _ [va_rf r45, va_rf x2] _
  refine zs_callS hE (As := [va_rf r45]) (encA := encI) (met_J1_colorOf K r45) q1714 q98 q1712 q1713 hd_J1_colorOf (by decide) (by decide) rfl (by simp [zcat_rf, zcat_i, zcat_j, zcat_f, zcat_d]) (fun z hz => by cases hz) dJ1_fixAfterDeletion_307 (fun r46 => ?_)
  show zS _ 310 _ [.int r46, va_rf x2] _
  refine zs_callS hE (As := [va_rf x2, .int r46]) (encA := encV) (met_J1_setColor K x2 r46) q1717 q98 q1715 q1716 hd_J1_setColor (by decide) (by decide) rfl (by simp [zcat_rf, zcat_i, zcat_j, zcat_f, zcat_d]) (fun z hz => by cases hz) dJ1_fixAfterDeletion_310 (fun _ => ?_)
  show zS _ 313 _ [] _
  refine zs_aload_n hE 1 rfl rfl dJ1_fixAfterDeletion_313 ?_
  refine zs_callS hE (As := [va_rf x1]) (encA := encR) (met_J1_parentOf K x1) q1705 q98 q1703 q1704 hd_J1_parentOf (by decide) (by decide) rfl (by simp [zcat_rf, zcat_i, zcat_j, zcat_f, zcat_d]) (fun z hz => by cases hz) dJ1_fixAfterDeletion_314 (fun r47 => ?_)
  show zS _ 317 _ [va_rf r47] _
  refine zs_iconst hE (v := (1 : Int32)) (by decide) dJ1_fixAfterDeletion_317 ?_
  refine zs_callS hE (As := [va_rf r47, .int (1 : Int32)]) (encA := encV) (met_J1_setColor K r47 (1 : Int32)) q1717 q98 q1715 q1716 hd_J1_setColor (by decide) (by decide) rfl (by simp [zcat_rf, zcat_i, zcat_j, zcat_f, zcat_d]) (fun z hz => by cases hz) dJ1_fixAfterDeletion_318 (fun _ => ?_)
  show zS _ 321 _ [] _
  refine zs_aload_n hE 2 rfl rfl dJ1_fixAfterDeletion_321 ?_
  refine zs_callS hE (As := [va_rf x2]) (encA := encR) (met_J1_leftOf K x2) q1708 q98 q1706 q1707 hd_J1_leftOf (by decide) (by decide) rfl (by simp [zcat_rf, zcat_i, zcat_j, zcat_f, zcat_d]) (fun z hz => by cases hz) dJ1_fixAfterDeletion_322 (fun r48 => ?_)
  show zS _ 325 _ [va_rf r48] _
  refine zs_iconst hE (v := (1 : Int32)) (by decide) dJ1_fixAfterDeletion_325 ?_
  refine zs_callS hE (As := [va_rf r48, .int (1 : Int32)]) (encA := encV) (met_J1_setColor K r48 (1 : Int32)) q1717 q98 q1715 q1716 hd_J1_setColor (by decide) (by decide) rfl (by simp [zcat_rf, zcat_i, zcat_j, zcat_f, zcat_d]) (fun z hz => by cases hz) dJ1_fixAfterDeletion_326 (fun _ => ?_)
  show zS _ 329 _ [] _
  refine zs_aload_n hE 0 rfl rfl dJ1_fixAfterDeletion_329 ?_
  refine zs_aload_n hE 1 rfl rfl dJ1_fixAfterDeletion_330 ?_
  refine zs_callS hE (As := [va_rf x1]) (encA := encR) (met_J1_parentOf K x1) q1705 q98 q1703 q1704 hd_J1_parentOf (by decide) (by decide) rfl (by simp [zcat_rf, zcat_i, zcat_j, zcat_f, zcat_d]) (fun z hz => by cases hz) dJ1_fixAfterDeletion_331 (fun r49 => ?_)
  show zS _ 334 _ [va_rf r49, va_rf (some x0)] _
  refine zs_callV hE (As := [va_rf r49]) (encA := encV) (ci := 0) rfl (fun y0 => met_J1_rotateRight K y0 r49) q1725 q98 q1722 q1724 (zq qs9) hd_J1_rotateRight (by decide) (by decide) rfl (by simp [zcat_rf, zcat_i, zcat_j, zcat_f, zcat_d]) (fun z hz => by cases hz) dJ1_fixAfterDeletion_334 (fun _ => ?_)
  show zS _ 337 _ [] _
  refine zs_aload_n hE 0 rfl rfl dJ1_fixAfterDeletion_337 ?_
  refine zs_getR hE (ci := 0) (k := 3) rfl (by decide) in_J1 (Or.inl q187) (Or.inl rfl) dJ1_fixAfterDeletion_338 (fun v50 => ?_)
  refine zs_astore_n hE (i := 1) (q := 1) rfl (by decide) (zcat_rf (some x0)) (lv' := [(0, va_rf (some x0)), (2, va_rf x2)]) rfl dJ1_fixAfterDeletion_341 ?_
  refine zs_goto hE 0 (by decide) dJ1_fixAfterDeletion_342 ?_
  refine zs_sub [1, 0] rfl ?_
  exact hs0 v50
theorem sm_J1_fixAfterDeletion_J265 {x : ZX Unit} {K : ZK} (hE : zE x K cJ1_fixAfterDeletion RJ1 "fixAfterDeletion" 3 2 122 encV none []) (x0 : Nat) (x1 : Option Nat) (x2 : Option Nat) (self0 : (Option Nat) → ZP Unit) (hs0 : ∀ v : Option Nat, zS x 0 [(0, va_rf (some x0)), (1, va_rf v)] [] (self0 v)) : zS x 265 [(0, va_rf (some x0)), (1, va_rf x1), (2, va_rf x2)] [] (s_J1_fixAfterDeletion_J265 K x0 x1 x2 self0) := by
  unfold s_J1_fixAfterDeletion_J265
  refine zs_aload_n hE 2 rfl rfl dJ1_fixAfterDeletion_265 ?_
  refine zs_callS hE (As := [va_rf x2]) (encA := encR) (met_J1_leftOf K x2) q1708 q98 q1706 q1707 hd_J1_leftOf (by decide) (by decide) rfl (by simp [zcat_rf, zcat_i, zcat_j, zcat_f, zcat_d]) (fun z hz => by cases hz) dJ1_fixAfterDeletion_266 (fun r40 => ?_)
  show zS _ 269 _ [va_rf r40] _
  refine zs_callS hE (As := [va_rf r40]) (encA := encI) (met_J1_colorOf K r40) q1714 q98 q1712 q1713 hd_J1_colorOf (by decide) (by decide) rfl (by simp [zcat_rf, zcat_i, zcat_j, zcat_f, zcat_d]) (fun z hz => by cases hz) dJ1_fixAfterDeletion_269 (fun r41 => ?_)
  show zS _ 272 _ [.int r41] _
  refine zs_iconst hE (v := (1 : Int32)) (by decide) dJ1_fixAfterDeletion_272 ?_
  refine zs_icmp_ne hE 302 (by decide) dJ1_fixAfterDeletion_273 ?_ ?_
  · refine zs_aload_n hE 2 rfl rfl dJ1_fixAfterDeletion_276 ?_
    refine zs_callS hE (As := [va_rf x2]) (encA := encR) (met_J1_rightOf K x2) q1711 q98 q1709 q1710 hd_J1_rightOf (by decide) (by decide) rfl (by simp [zcat_rf, zcat_i, zcat_j, zcat_f, zcat_d]) (fun z hz => by cases hz) dJ1_fixAfterDeletion_277 (fun r42 => ?_)
    show zS _ 280 _ [va_rf r42] _
    refine zs_iconst hE (v := (1 : Int32)) (by decide) dJ1_fixAfterDeletion_280 ?_
    refine zs_callS hE (As := [va_rf r42, .int (1 : Int32)]) (encA := encV) (met_J1_setColor K r42 (1 : Int32)) q1717 q98 q1715 q1716 hd_J1_setColor (by decide) (by decide) rfl (by simp [zcat_rf, zcat_i, zcat_j, zcat_f, zcat_d]) (fun z hz => by cases hz) dJ1_fixAfterDeletion_281 (fun _ => ?_)
    show zS _ 284 _ [] _
    refine zs_aload_n hE 2 rfl rfl dJ1_fixAfterDeletion_284 ?_
    refine zs_iconst hE (v := (0 : Int32)) (by decide) dJ1_fixAfterDeletion_285 ?_
    refine zs_callS hE (As := [va_rf x2, .int (0 : Int32)]) (encA := encV) (met_J1_setColor K x2 (0 : Int32)) q1717 q98 q1715 q1716 hd_J1_setColor (by decide) (by decide) rfl (by simp [zcat_rf, zcat_i, zcat_j, zcat_f, zcat_d]) (fun z hz => by cases hz) dJ1_fixAfterDeletion_286 (fun _ => ?_)
    show zS _ 289 _ [] _
    refine zs_aload_n hE 0 rfl rfl dJ1_fixAfterDeletion_289 ?_
    refine zs_aload_n hE 2 rfl rfl dJ1_fixAfterDeletion_290 ?_
    refine zs_callV hE (As := [va_rf x2]) (encA := encV) (ci := 0) rfl (fun y0 => met_J1_rotateLeft K y0 x2) q1721 q98 q1718 q1720 (zq qs8) hd_J1_rotateLeft (by decide) (by decide) rfl (by simp [zcat_rf, zcat_i, zcat_j, zcat_f, zcat_d]) (fun z hz => by cases hz) dJ1_fixAfterDeletion_291 (fun _ => ?_)
    show zS _ 294 _ [] _
    refine zs_aload_n hE 1 rfl rfl dJ1_fixAfterDeletion_294 ?_
    refine zs_callS hE (As := [va_rf x1]) (encA := encR) (met_J1_parentOf K x1) q1705 q98 q1703 q1704 hd_J1_parentOf (by decide) (by decide) rfl (by simp [zcat_rf, zcat_i, zcat_j, zcat_f, zcat_d]) (fun z hz => by cases hz) dJ1_fixAfterDeletion_295 (fun r43 => ?_)
    show zS _ 298 _ [va_rf r43] _
    refine zs_callS hE (As := [va_rf r43]) (encA := encR) (met_J1_leftOf K r43) q1708 q98 q1706 q1707 hd_J1_leftOf (by decide) (by decide) rfl (by simp [zcat_rf, zcat_i, zcat_j, zcat_f, zcat_d]) (fun z hz => by cases hz) dJ1_fixAfterDeletion_298 (fun r44 => ?_)
    show zS _ 301 _ [va_rf r44] _
    refine zs_astore_n hE (i := 2) (q := 2) rfl (by decide) (zcat_rf x1) (lv' := [(0, va_rf (some x0)), (1, va_rf x1)]) rfl dJ1_fixAfterDeletion_301 ?_
    refine zs_sub [1, 2, 0] rfl ?_
    exact sm_J1_fixAfterDeletion_J302 hE x0 x1 r44 self0 hs0
  · exact sm_J1_fixAfterDeletion_J302 hE x0 x1 x2 self0 hs0
theorem sm_J1_fixAfterDeletion_J230 {x : ZX Unit} {K : ZK} (hE : zE x K cJ1_fixAfterDeletion RJ1 "fixAfterDeletion" 3 2 122 encV none []) (x0 : Nat) (x1 : Option Nat) (x2 : Option Nat) (self0 : (Option Nat) → ZP Unit) (hs0 : ∀ v : Option Nat, zS x 0 [(0, va_rf (some x0)), (1, va_rf v)] [] (self0 v)) : zS x 230 [(0, va_rf (some x0)), (1, va_rf x1), (2, va_rf x2)] [] (s_J1_fixAfterDeletion_J230 K x0 x1 x2 self0) := by
  unfold s_J1_fixAfterDeletion_J230
  refine zs_aload_n hE 2 rfl rfl dJ1_fixAfterDeletion_230 ?_
  refine zs_callS hE (As := [va_rf x2]) (encA := encR) (met_J1_rightOf K x2) q1711 q98 q1709 q1710 hd_J1_rightOf (by decide) (by decide) rfl (by simp [zcat_rf, zcat_i, zcat_j, zcat_f, zcat_d]) (fun z hz => by cases hz) dJ1_fixAfterDeletion_231 (fun r35 => ?_)
  show zS _ 234 _ [va_rf r35] _
  refine zs_callS hE (As := [va_rf r35]) (encA := encI) (met_J1_colorOf K r35) q1714 q98 q1712 q1713 hd_J1_colorOf (by decide) (by decide) rfl (by simp [zcat_rf, zcat_i, zcat_j, zcat_f, zcat_d]) (fun z hz => by cases hz) dJ1_fixAfterDeletion_234 (fun r36 => ?_)
  show zS _ 237 _ [.int r36] _
  refine zs_iconst hE (v := (1 : Int32)) (by decide) dJ1_fixAfterDeletion_237 ?_
  refine zs_icmp_ne hE 265 (by decide) dJ1_fixAfterDeletion_238 ?_ ?_
  · refine zs_aload_n hE 2 rfl rfl dJ1_fixAfterDeletion_241 ?_
    refine zs_callS hE (As := [va_rf x2]) (encA := encR) (met_J1_leftOf K x2) q1708 q98 q1706 q1707 hd_J1_leftOf (by decide) (by decide) rfl (by simp [zcat_rf, zcat_i, zcat_j, zcat_f, zcat_d]) (fun z hz => by cases hz) dJ1_fixAfterDeletion_242 (fun r37 => ?_)
    show zS _ 245 _ [va_rf r37] _
    refine zs_callS hE (As := [va_rf r37]) (encA := encI) (met_J1_colorOf K r37) q1714 q98 q1712 q1713 hd_J1_colorOf (by decide) (by decide) rfl (by simp [zcat_rf, zcat_i, zcat_j, zcat_f, zcat_d]) (fun z hz => by cases hz) dJ1_fixAfterDeletion_245 (fun r38 => ?_)
    show zS _ 248 _ [.int r38] _
    refine zs_iconst hE (v := (1 : Int32)) (by decide) dJ1_fixAfterDeletion_248 ?_
    refine zs_icmp_ne hE 265 (by decide) dJ1_fixAfterDeletion_249 ?_ ?_
    · refine zs_aload_n hE 2 rfl rfl dJ1_fixAfterDeletion_252 ?_
      refine zs_iconst hE (v := (0 : Int32)) (by decide) dJ1_fixAfterDeletion_253 ?_
      refine zs_callS hE (As := [va_rf x2, .int (0 : Int32)]) (encA := encV) (met_J1_setColor K x2 (0 : Int32)) q1717 q98 q1715 q1716 hd_J1_setColor (by decide) (by decide) rfl (by simp [zcat_rf, zcat_i, zcat_j, zcat_f, zcat_d]) (fun z hz => by cases hz) dJ1_fixAfterDeletion_254 (fun _ => ?_)
      show zS _ 257 _ [] _
      refine zs_aload_n hE 1 rfl rfl dJ1_fixAfterDeletion_257 ?_
      refine zs_callS hE (As := [va_rf x1]) (encA := encR) (met_J1_parentOf K x1) q1705 q98 q1703 q1704 hd_J1_parentOf (by decide) (by decide) rfl (by simp [zcat_rf, zcat_i, zcat_j, zcat_f, zcat_d]) (fun z hz => by cases hz) dJ1_fixAfterDeletion_258 (fun r39 => ?_)
      show zS _ 261 _ [va_rf r39] _
      refine zs_astore_n hE (i := 1) (q := 1) rfl (by decide) (zcat_rf (some x0)) (lv' := [(0, va_rf (some x0)), (2, va_rf x2)]) rfl dJ1_fixAfterDeletion_261 ?_
      refine zs_goto hE 342 (by decide) dJ1_fixAfterDeletion_262 ?_
      refine zs_goto hE 0 (by decide) dJ1_fixAfterDeletion_342 ?_
      refine zs_sub [1, 0] rfl ?_
      exact hs0 r39
    · exact sm_J1_fixAfterDeletion_J265 hE x0 x1 x2 self0 hs0
  · exact sm_J1_fixAfterDeletion_J265 hE x0 x1 x2 self0 hs0
theorem sm_J1_fixAfterDeletion_B0 {x : ZX Unit} {K : ZK} (hE : zE x K cJ1_fixAfterDeletion RJ1 "fixAfterDeletion" 3 2 122 encV none []) (x0 : Nat) (self0 : (Option Nat) → ZP Unit) (hs0 : ∀ v : Option Nat, zS x 0 [(0, va_rf (some x0)), (1, va_rf v)] [] (self0 v)) (x1 : Option Nat) : zS x 0 [(0, va_rf (some x0)), (1, va_rf x1)] [] (s_J1_fixAfterDeletion_B0 K x0 self0 x1) := by
  unfold s_J1_fixAfterDeletion_B0
  refine zs_aload_n hE 1 rfl rfl dJ1_fixAfterDeletion_0 ?_
  refine zs_aload_n hE 0 rfl rfl dJ1_fixAfterDeletion_1 ?_
  refine zs_getR hE (ci := 0) (k := 3) rfl (by decide) in_J1 (Or.inl q187) (Or.inl rfl) dJ1_fixAfterDeletion_2 (fun v1 => ?_)
  refine zs_acmp_eq hE 345 (by decide) dJ1_fixAfterDeletion_5 ?_ ?_
  · refine zs_sub [1] rfl ?_
    exact sm_J1_fixAfterDeletion_J345 hE x1
  · refine zs_aload_n hE 1 rfl rfl dJ1_fixAfterDeletion_8 ?_
    refine zs_callS hE (As := [va_rf x1]) (encA := encI) (met_J1_colorOf K x1) q1714 q98 q1712 q1713 hd_J1_colorOf (by decide) (by decide) rfl (by simp [zcat_rf, zcat_i, zcat_j, zcat_f, zcat_d]) (fun z hz => by cases hz) dJ1_fixAfterDeletion_9 (fun r2 => ?_)
    show zS _ 12 _ [.int r2] _
    refine zs_iconst hE (v := (1 : Int32)) (by decide) dJ1_fixAfterDeletion_12 ?_
    refine zs_icmp_ne hE 345 (by decide) dJ1_fixAfterDeletion_13 ?_ ?_
    · refine zs_aload_n hE 1 rfl rfl dJ1_fixAfterDeletion_16 ?_
      refine zs_aload_n hE 1 rfl rfl dJ1_fixAfterDeletion_17 ?_
      refine zs_callS hE (As := [va_rf x1]) (encA := encR) (met_J1_parentOf K x1) q1705 q98 q1703 q1704 hd_J1_parentOf (by decide) (by decide) rfl (by simp [zcat_rf, zcat_i, zcat_j, zcat_f, zcat_d]) (fun z hz => by cases hz) dJ1_fixAfterDeletion_18 (fun r3 => ?_)
      show zS _ 21 _ [va_rf r3, va_rf x1] _
      refine zs_callS hE (As := [va_rf r3]) (encA := encR) (met_J1_leftOf K r3) q1708 q98 q1706 q1707 hd_J1_leftOf (by decide) (by decide) rfl (by simp [zcat_rf, zcat_i, zcat_j, zcat_f, zcat_d]) (fun z hz => by cases hz) dJ1_fixAfterDeletion_21 (fun r4 => ?_)
      show zS _ 24 _ [va_rf r4, va_rf x1] _
      refine zs_acmp_ne hE 186 (by decide) dJ1_fixAfterDeletion_24 ?_ ?_
      · refine zs_aload_n hE 1 rfl rfl dJ1_fixAfterDeletion_27 ?_
        refine zs_callS hE (As := [va_rf x1]) (encA := encR) (met_J1_parentOf K x1) q1705 q98 q1703 q1704 hd_J1_parentOf (by decide) (by decide) rfl (by simp [zcat_rf, zcat_i, zcat_j, zcat_f, zcat_d]) (fun z hz => by cases hz) dJ1_fixAfterDeletion_28 (fun r5 => ?_)
        show zS _ 31 _ [va_rf r5] _
        refine zs_callS hE (As := [va_rf r5]) (encA := encR) (met_J1_rightOf K r5) q1711 q98 q1709 q1710 hd_J1_rightOf (by decide) (by decide) rfl (by simp [zcat_rf, zcat_i, zcat_j, zcat_f, zcat_d]) (fun z hz => by cases hz) dJ1_fixAfterDeletion_31 (fun r6 => ?_)
        show zS _ 34 _ [va_rf r6] _
        refine zs_astore_n hE (i := 2) (q := 2) rfl (by decide) (zcat_rf x1) (lv' := [(0, va_rf (some x0)), (1, va_rf x1)]) rfl dJ1_fixAfterDeletion_34 ?_
        refine zs_aload_n hE 0 rfl rfl dJ1_fixAfterDeletion_35 ?_
        refine zs_callS hE (As := [va_rf r6]) (encA := encI) (met_J1_colorOf K r6) q1714 q98 q1712 q1713 hd_J1_colorOf (by decide) (by decide) rfl (by simp [zcat_rf, zcat_i, zcat_j, zcat_f, zcat_d]) (fun z hz => by cases hz) dJ1_fixAfterDeletion_36 (fun r7 => ?_)
        show zS _ 39 _ [.int r7] _
        refine zs_if_ne hE 71 (by decide) dJ1_fixAfterDeletion_39 ?_ ?_
        · refine zs_aload_n hE 0 rfl rfl dJ1_fixAfterDeletion_42 ?_
          refine zs_iconst hE (v := (1 : Int32)) (by decide) dJ1_fixAfterDeletion_43 ?_
          refine zs_callS hE (As := [va_rf r6, .int (1 : Int32)]) (encA := encV) (met_J1_setColor K r6 (1 : Int32)) q1717 q98 q1715 q1716 hd_J1_setColor (by decide) (by decide) rfl (by simp [zcat_rf, zcat_i, zcat_j, zcat_f, zcat_d]) (fun z hz => by cases hz) dJ1_fixAfterDeletion_44 (fun _ => ?_)
          show zS _ 47 _ [] _
          refine zs_aload_n hE 2 rfl rfl dJ1_fixAfterDeletion_47 ?_
          refine zs_callS hE (As := [va_rf x1]) (encA := encR) (met_J1_parentOf K x1) q1705 q98 q1703 q1704 hd_J1_parentOf (by decide) (by decide) rfl (by simp [zcat_rf, zcat_i, zcat_j, zcat_f, zcat_d]) (fun z hz => by cases hz) dJ1_fixAfterDeletion_48 (fun r8 => ?_)
          show zS _ 51 _ [va_rf r8] _
          refine zs_iconst hE (v := (0 : Int32)) (by decide) dJ1_fixAfterDeletion_51 ?_
          refine zs_callS hE (As := [va_rf r8, .int (0 : Int32)]) (encA := encV) (met_J1_setColor K r8 (0 : Int32)) q1717 q98 q1715 q1716 hd_J1_setColor (by decide) (by decide) rfl (by simp [zcat_rf, zcat_i, zcat_j, zcat_f, zcat_d]) (fun z hz => by cases hz) dJ1_fixAfterDeletion_52 (fun _ => ?_)
          show zS _ 55 _ [] _
          refine zs_aload_n hE 1 rfl rfl dJ1_fixAfterDeletion_55 ?_
          refine zs_aload_n hE 2 rfl rfl dJ1_fixAfterDeletion_56 ?_
          refine zs_callS hE (As := [va_rf x1]) (encA := encR) (met_J1_parentOf K x1) q1705 q98 q1703 q1704 hd_J1_parentOf (by decide) (by decide) rfl (by simp [zcat_rf, zcat_i, zcat_j, zcat_f, zcat_d]) (fun z hz => by cases hz) dJ1_fixAfterDeletion_57 (fun r9 => ?_)
          show zS _ 60 _ [va_rf r9, va_rf (some x0)] _
          refine zs_callV hE (As := [va_rf r9]) (encA := encV) (ci := 0) rfl (fun y0 => met_J1_rotateLeft K y0 r9) q1721 q98 q1718 q1720 (zq qs8) hd_J1_rotateLeft (by decide) (by decide) rfl (by simp [zcat_rf, zcat_i, zcat_j, zcat_f, zcat_d]) (fun z hz => by cases hz) dJ1_fixAfterDeletion_60 (fun _ => ?_)
          show zS _ 63 _ [] _
          refine zs_aload_n hE 2 rfl rfl dJ1_fixAfterDeletion_63 ?_
          refine zs_callS hE (As := [va_rf x1]) (encA := encR) (met_J1_parentOf K x1) q1705 q98 q1703 q1704 hd_J1_parentOf (by decide) (by decide) rfl (by simp [zcat_rf, zcat_i, zcat_j, zcat_f, zcat_d]) (fun z hz => by cases hz) dJ1_fixAfterDeletion_64 (fun r10 => ?_)
          show zS _ 67 _ [va_rf r10] _
          refine zs_callS hE (As := [va_rf r10]) (encA := encR) (met_J1_rightOf K r10) q1711 q98 q1709 q1710 hd_J1_rightOf (by decide) (by decide) rfl (by simp [zcat_rf, zcat_i, zcat_j, zcat_f, zcat_d]) (fun z hz => by cases hz) dJ1_fixAfterDeletion_67 (fun r11 => ?_)
          show zS _ 70 _ [va_rf r11] _
          refine zs_astore_n hE (i := 2) (q := 2) rfl (by decide) (zcat_rf x1) (lv' := [(0, va_rf (some x0)), (1, va_rf x1)]) rfl dJ1_fixAfterDeletion_70 ?_
          refine zs_sub [1, 2, 0] rfl ?_
          exact sm_J1_fixAfterDeletion_J71 hE x0 x1 r11 self0 hs0
        · refine zs_sub [1, 2, 0] rfl ?_
          exact sm_J1_fixAfterDeletion_J71 hE x0 x1 r6 self0 hs0
      · refine zs_aload_n hE 1 rfl rfl dJ1_fixAfterDeletion_186 ?_
        refine zs_callS hE (As := [va_rf x1]) (encA := encR) (met_J1_parentOf K x1) q1705 q98 q1703 q1704 hd_J1_parentOf (by decide) (by decide) rfl (by simp [zcat_rf, zcat_i, zcat_j, zcat_f, zcat_d]) (fun z hz => by cases hz) dJ1_fixAfterDeletion_187 (fun r28 => ?_)
        show zS _ 190 _ [va_rf r28] _
        refine zs_callS hE (As := [va_rf r28]) (encA := encR) (met_J1_leftOf K r28) q1708 q98 q1706 q1707 hd_J1_leftOf (by decide) (by decide) rfl (by simp [zcat_rf, zcat_i, zcat_j, zcat_f, zcat_d]) (fun z hz => by cases hz) dJ1_fixAfterDeletion_190 (fun r29 => ?_)
        show zS _ 193 _ [va_rf r29] _
        refine zs_astore_n hE (i := 2) (q := 2) rfl (by decide) (zcat_rf x1) (lv' := [(0, va_rf (some x0)), (1, va_rf x1)]) rfl dJ1_fixAfterDeletion_193 ?_
        refine zs_aload_n hE 0 rfl rfl dJ1_fixAfterDeletion_194 ?_
        refine zs_callS hE (As := [va_rf r29]) (encA := encI) (met_J1_colorOf K r29) q1714 q98 q1712 q1713 hd_J1_colorOf (by decide) (by decide) rfl (by simp [zcat_rf, zcat_i, zcat_j, zcat_f, zcat_d]) (fun z hz => by cases hz) dJ1_fixAfterDeletion_195 (fun r30 => ?_)
        show zS _ 198 _ [.int r30] _
        refine zs_if_ne hE 230 (by decide) dJ1_fixAfterDeletion_198 ?_ ?_
        · refine zs_aload_n hE 0 rfl rfl dJ1_fixAfterDeletion_201 ?_
          refine zs_iconst hE (v := (1 : Int32)) (by decide) dJ1_fixAfterDeletion_202 ?_
          refine zs_callS hE (As := [va_rf r29, .int (1 : Int32)]) (encA := encV) (met_J1_setColor K r29 (1 : Int32)) q1717 q98 q1715 q1716 hd_J1_setColor (by decide) (by decide) rfl (by simp [zcat_rf, zcat_i, zcat_j, zcat_f, zcat_d]) (fun z hz => by cases hz) dJ1_fixAfterDeletion_203 (fun _ => ?_)
          show zS _ 206 _ [] _
          refine zs_aload_n hE 2 rfl rfl dJ1_fixAfterDeletion_206 ?_
          refine zs_callS hE (As := [va_rf x1]) (encA := encR) (met_J1_parentOf K x1) q1705 q98 q1703 q1704 hd_J1_parentOf (by decide) (by decide) rfl (by simp [zcat_rf, zcat_i, zcat_j, zcat_f, zcat_d]) (fun z hz => by cases hz) dJ1_fixAfterDeletion_207 (fun r31 => ?_)
          show zS _ 210 _ [va_rf r31] _
          refine zs_iconst hE (v := (0 : Int32)) (by decide) dJ1_fixAfterDeletion_210 ?_
          refine zs_callS hE (As := [va_rf r31, .int (0 : Int32)]) (encA := encV) (met_J1_setColor K r31 (0 : Int32)) q1717 q98 q1715 q1716 hd_J1_setColor (by decide) (by decide) rfl (by simp [zcat_rf, zcat_i, zcat_j, zcat_f, zcat_d]) (fun z hz => by cases hz) dJ1_fixAfterDeletion_211 (fun _ => ?_)
          show zS _ 214 _ [] _
          refine zs_aload_n hE 1 rfl rfl dJ1_fixAfterDeletion_214 ?_
          refine zs_aload_n hE 2 rfl rfl dJ1_fixAfterDeletion_215 ?_
          refine zs_callS hE (As := [va_rf x1]) (encA := encR) (met_J1_parentOf K x1) q1705 q98 q1703 q1704 hd_J1_parentOf (by decide) (by decide) rfl (by simp [zcat_rf, zcat_i, zcat_j, zcat_f, zcat_d]) (fun z hz => by cases hz) dJ1_fixAfterDeletion_216 (fun r32 => ?_)
          show zS _ 219 _ [va_rf r32, va_rf (some x0)] _
          refine zs_callV hE (As := [va_rf r32]) (encA := encV) (ci := 0) rfl (fun y0 => met_J1_rotateRight K y0 r32) q1725 q98 q1722 q1724 (zq qs9) hd_J1_rotateRight (by decide) (by decide) rfl (by simp [zcat_rf, zcat_i, zcat_j, zcat_f, zcat_d]) (fun z hz => by cases hz) dJ1_fixAfterDeletion_219 (fun _ => ?_)
          show zS _ 222 _ [] _
          refine zs_aload_n hE 2 rfl rfl dJ1_fixAfterDeletion_222 ?_
          refine zs_callS hE (As := [va_rf x1]) (encA := encR) (met_J1_parentOf K x1) q1705 q98 q1703 q1704 hd_J1_parentOf (by decide) (by decide) rfl (by simp [zcat_rf, zcat_i, zcat_j, zcat_f, zcat_d]) (fun z hz => by cases hz) dJ1_fixAfterDeletion_223 (fun r33 => ?_)
          show zS _ 226 _ [va_rf r33] _
          refine zs_callS hE (As := [va_rf r33]) (encA := encR) (met_J1_leftOf K r33) q1708 q98 q1706 q1707 hd_J1_leftOf (by decide) (by decide) rfl (by simp [zcat_rf, zcat_i, zcat_j, zcat_f, zcat_d]) (fun z hz => by cases hz) dJ1_fixAfterDeletion_226 (fun r34 => ?_)
          show zS _ 229 _ [va_rf r34] _
          refine zs_astore_n hE (i := 2) (q := 2) rfl (by decide) (zcat_rf x1) (lv' := [(0, va_rf (some x0)), (1, va_rf x1)]) rfl dJ1_fixAfterDeletion_229 ?_
          refine zs_sub [1, 2, 0] rfl ?_
          exact sm_J1_fixAfterDeletion_J230 hE x0 x1 r34 self0 hs0
        · refine zs_sub [1, 2, 0] rfl ?_
          exact sm_J1_fixAfterDeletion_J230 hE x0 x1 r29 self0 hs0
    · refine zs_sub [1] rfl ?_
      exact sm_J1_fixAfterDeletion_J345 hE x1
theorem sm_J1_fixAfterDeletion_L0 {x : ZX Unit} {K : ZK} (hE : zE x K cJ1_fixAfterDeletion RJ1 "fixAfterDeletion" 3 2 122 encV none []) (x0 : Nat) (v : Option Nat) : zS x 0 [(0, va_rf (some x0)), (1, va_rf v)] [] (s_J1_fixAfterDeletion_L0 K x0 v) := by
  unfold s_J1_fixAfterDeletion_L0
  exact zs_loop (lvf := fun v => [(0, va_rf (some x0)), (1, va_rf v)]) (fun self0 hs0 v => sm_J1_fixAfterDeletion_B0 hE x0 self0 hs0 v) v
theorem sm_J1_fixAfterDeletion {x : ZX Unit} {K : ZK} (hE : zE x K cJ1_fixAfterDeletion RJ1 "fixAfterDeletion" 3 2 122 encV none []) (this : Nat) (a1 : Option Nat) : zS x 0 [(0, va_rf (some this)), (1, va_rf a1)] [] (s_J1_fixAfterDeletion K this a1) := by
  unfold s_J1_fixAfterDeletion
  exact sm_J1_fixAfterDeletion_L0 hE this a1
theorem hd_J1_fixAfterDeletion : (yJ1_fixAfterDeletion).cls ≠ "java/lang/invoke/MethodHandle" ∧ (yJ1_fixAfterDeletion).cls ≠ "java/lang/invoke/VarHandle" ∧ (parseMethodDescriptor (yJ1_fixAfterDeletion).desc).map (fun d => d.parameters.length) = some 1 := by decide +kernel
theorem met_J1_fixAfterDeletion (K : ZK) (this : Nat) (a1 : Option Nat) : zMeth K yJ1_fixAfterDeletion (zws yJ1_fixAfterDeletion cJ1_fixAfterDeletion 3 none) 2 122 [.ref this, va_rf a1] encV (s_J1_fixAfterDeletion K this a1) :=
  fun l G hl hK => zmet_of hl hK (by decide +kernel) rfl rfl (by simp [zsl_nil, zsl_rf, zsl_r, zsl_i, zsl_j, zsl_f, zsl_d]) (fun x hE => by simp only [zla_nil, zla_rf, zla_r, zla_i, zla_j, zla_f, zla_d, Nat.reduceAdd]; exact sm_J1_fixAfterDeletion hE this a1)
theorem sm_J1_deleteEntry_J240 {x : ZX Unit} {K : ZK} (hE : zE x K cJ1_deleteEntry RJ1 "deleteEntry" 3 3 144 encV none []) (x1 : Option Nat) : zS x 240 [(1, va_rf x1)] [] (s_J1_deleteEntry_J240 K x1) := by
  unfold s_J1_deleteEntry_J240
  refine zs_aload_n hE 0 rfl rfl dJ1_deleteEntry_240 ?_
  refine zs_null hE dJ1_deleteEntry_241 ?_
  refine zs_putR hE (ci := 12) (k := 4) rfl (by decide) in_J33 (Or.inl q1679) (Or.inl rfl) (Or.inl rfl) (fun h => nomatch h) (tyJ33_ok 4 (by decide)) (Or.inl ⟨_, rfl⟩) dJ1_deleteEntry_242 ?_
  exact zs_vret hE dJ1_deleteEntry_245
theorem sm_J1_deleteEntry_J192 {x : ZX Unit} {K : ZK} (hE : zE x K cJ1_deleteEntry RJ1 "deleteEntry" 3 3 144 encV none []) (x1 : Option Nat) : zS x 192 [(1, va_rf x1)] [] (s_J1_deleteEntry_J192 K x1) := by
  unfold s_J1_deleteEntry_J192
  refine zs_aload_n hE 0 rfl rfl dJ1_deleteEntry_192 ?_
  refine zs_getR hE (ci := 12) (k := 4) rfl (by decide) in_J33 (Or.inl q1679) (Or.inl rfl) dJ1_deleteEntry_193 (fun v8 => ?_)
  refine zs_ifnull hE 245 (by decide) dJ1_deleteEntry_196 ?_ ?_
  · exact zs_vret hE dJ1_deleteEntry_245
  · refine zs_aload_n hE 0 rfl rfl dJ1_deleteEntry_199 ?_
    refine zs_aload_n hE 0 rfl rfl dJ1_deleteEntry_200 ?_
    refine zs_getR hE (ci := 12) (k := 4) rfl (by decide) in_J33 (Or.inl q1679) (Or.inl rfl) dJ1_deleteEntry_201 (fun v9 => ?_)
    refine zs_getR hE (ci := 12) (k := 2) rfl (by decide) in_J33 (Or.inl q1676) (Or.inl rfl) dJ1_deleteEntry_204 (fun v10 => ?_)
    refine zs_acmp_ne hE 221 (by decide) dJ1_deleteEntry_207 ?_ ?_
    · refine zs_aload_n hE 0 rfl rfl dJ1_deleteEntry_210 ?_
      refine zs_getR hE (ci := 12) (k := 4) rfl (by decide) in_J33 (Or.inl q1679) (Or.inl rfl) dJ1_deleteEntry_211 (fun v11 => ?_)
      refine zs_null hE dJ1_deleteEntry_214 ?_
      refine zs_putR hE (ci := 12) (k := 2) rfl (by decide) in_J33 (Or.inl q1676) (Or.inl rfl) (Or.inl rfl) (fun h => nomatch h) (tyJ33_ok 2 (by decide)) (Or.inl ⟨_, rfl⟩) dJ1_deleteEntry_215 ?_
      refine zs_goto hE 240 (by decide) dJ1_deleteEntry_218 ?_
      exact sm_J1_deleteEntry_J240 hE x1
    · refine zs_aload_n hE 0 rfl rfl dJ1_deleteEntry_221 ?_
      refine zs_aload_n hE 0 rfl rfl dJ1_deleteEntry_222 ?_
      refine zs_getR hE (ci := 12) (k := 4) rfl (by decide) in_J33 (Or.inl q1679) (Or.inl rfl) dJ1_deleteEntry_223 (fun v12 => ?_)
      refine zs_getR hE (ci := 12) (k := 3) rfl (by decide) in_J33 (Or.inl q1677) (Or.inl rfl) dJ1_deleteEntry_226 (fun v13 => ?_)
      refine zs_acmp_ne hE 240 (by decide) dJ1_deleteEntry_229 ?_ ?_
      · refine zs_aload_n hE 0 rfl rfl dJ1_deleteEntry_232 ?_
        refine zs_getR hE (ci := 12) (k := 4) rfl (by decide) in_J33 (Or.inl q1679) (Or.inl rfl) dJ1_deleteEntry_233 (fun v14 => ?_)
        refine zs_null hE dJ1_deleteEntry_236 ?_
        refine zs_putR hE (ci := 12) (k := 3) rfl (by decide) in_J33 (Or.inl q1677) (Or.inl rfl) (Or.inl rfl) (fun h => nomatch h) (tyJ33_ok 3 (by decide)) (Or.inl ⟨_, rfl⟩) dJ1_deleteEntry_237 ?_
        exact sm_J1_deleteEntry_J240 hE x1
      · exact sm_J1_deleteEntry_J240 hE x1
theorem sm_J1_deleteEntry_J133 {x : ZX Unit} {K : ZK} (hE : zE x K cJ1_deleteEntry RJ1 "deleteEntry" 3 3 144 encV none []) (x0 : Nat) (x1 : Option Nat) (x2 : Option Nat) : zS x 133 [(0, va_rf (some x0)), (1, va_rf x1), (2, va_rf x2)] [] (s_J1_deleteEntry_J133 K x0 x1 x2) := by
  unfold s_J1_deleteEntry_J133
  refine zs_aload_n hE 1 rfl rfl dJ1_deleteEntry_133 ?_
  refine zs_aload_n hE 1 rfl rfl dJ1_deleteEntry_134 ?_
  refine zs_aload_n hE 1 rfl rfl dJ1_deleteEntry_135 ?_
  refine zs_null hE dJ1_deleteEntry_136 ?_
  refine zs_dup_x1 hE (zcat_rf _) (zcat_rf _) dJ1_deleteEntry_137 ?_
  refine zs_putR hE (ci := 12) (k := 4) rfl (by decide) in_J33 (Or.inl q1679) (Or.inl rfl) (Or.inl rfl) (fun h => nomatch h) (tyJ33_ok 4 (by decide)) (Or.inl ⟨_, rfl⟩) dJ1_deleteEntry_138 ?_
  refine zs_dup_x1 hE (zcat_rf _) (zcat_rf _) dJ1_deleteEntry_141 ?_
  refine zs_putR hE (ci := 12) (k := 3) rfl (by decide) in_J33 (Or.inl q1677) (Or.inl rfl) (Or.inl rfl) (fun h => nomatch h) (tyJ33_ok 3 (by decide)) (Or.inl ⟨_, rfl⟩) dJ1_deleteEntry_142 ?_
  refine zs_putR hE (ci := 12) (k := 2) rfl (by decide) in_J33 (Or.inl q1676) (Or.inl rfl) (Or.inl rfl) (fun h => nomatch h) (tyJ33_ok 2 (by decide)) (Or.inl ⟨_, rfl⟩) dJ1_deleteEntry_145 ?_
  refine zs_aload_n hE 1 rfl rfl dJ1_deleteEntry_148 ?_
  refine zs_getI hE (ci := 12) (k := 5) rfl (by decide) in_J33 (Or.inl q1681) (Or.inl rfl) dJ1_deleteEntry_149 (fun v17 => ?_)
  refine zs_iconst hE (v := (1 : Int32)) (by decide) dJ1_deleteEntry_152 ?_
  refine zs_icmp_ne hE 245 (by decide) dJ1_deleteEntry_153 ?_ ?_
  · refine zs_aload_n hE 0 rfl rfl dJ1_deleteEntry_156 ?_
    refine zs_aload_n hE 2 rfl rfl dJ1_deleteEntry_157 ?_
    refine zs_callV hE (As := [va_rf x2]) (encA := encV) (ci := 0) rfl (fun y0 => met_J1_fixAfterDeletion K y0 x2) q1916 q98 q1913 q1915 (zq qs19) hd_J1_fixAfterDeletion (by decide) (by decide) rfl (by simp [zcat_rf, zcat_i, zcat_j, zcat_f, zcat_d]) (fun z hz => by cases hz) dJ1_deleteEntry_158 (fun _ => ?_)
    show zS _ 161 _ [] _
    refine zs_goto hE 245 (by decide) dJ1_deleteEntry_161 ?_
    exact zs_vret hE dJ1_deleteEntry_245
  · exact zs_vret hE dJ1_deleteEntry_245
theorem sm_J1_deleteEntry_J75 {x : ZX Unit} {K : ZK} (hE : zE x K cJ1_deleteEntry RJ1 "deleteEntry" 3 3 144 encV none []) (x0 : Nat) (x1 : Option Nat) (t0 : Option Nat) : zS x 75 [(0, va_rf (some x0)), (1, va_rf x1)] [va_rf t0] (s_J1_deleteEntry_J75 K x0 x1 t0) := by
  unfold s_J1_deleteEntry_J75
  refine zs_astore_n hE (i := 2) (q := 2) rfl (by decide) (zcat_rf x1) (lv' := [(0, va_rf (some x0)), (1, va_rf x1)]) rfl dJ1_deleteEntry_75 ?_
  refine zs_aload_n hE 0 rfl rfl dJ1_deleteEntry_76 ?_
  refine zs_ifnull hE 164 (by decide) dJ1_deleteEntry_77 ?_ ?_
  · refine zs_aload_n hE 2 rfl rfl dJ1_deleteEntry_164 ?_
    refine zs_getR hE (ci := 12) (k := 4) rfl (by decide) in_J33 (Or.inl q1679) (Or.inl rfl) dJ1_deleteEntry_165 (fun v6 => ?_)
    refine zs_ifnonnull hE 179 (by decide) dJ1_deleteEntry_168 ?_ ?_
    · refine zs_aload_n hE 1 rfl rfl dJ1_deleteEntry_171 ?_
      refine zs_null hE dJ1_deleteEntry_172 ?_
      refine zs_putR hE (ci := 0) (k := 3) rfl (by decide) in_J1 (Or.inl q187) (Or.inl rfl) (Or.inl rfl) (fun h => nomatch h) (tyJ1_ok 3 (by decide)) (Or.inl ⟨_, rfl⟩) dJ1_deleteEntry_173 ?_
      refine zs_goto hE 245 (by decide) dJ1_deleteEntry_176 ?_
      exact zs_vret hE dJ1_deleteEntry_245
    · refine zs_aload_n hE 2 rfl rfl dJ1_deleteEntry_179 ?_
      refine zs_getI hE (ci := 12) (k := 5) rfl (by decide) in_J33 (Or.inl q1681) (Or.inl rfl) dJ1_deleteEntry_180 (fun v7 => ?_)
      refine zs_iconst hE (v := (1 : Int32)) (by decide) dJ1_deleteEntry_183 ?_
      refine zs_icmp_ne hE 192 (by decide) dJ1_deleteEntry_184 ?_ ?_
      · refine zs_aload_n hE 1 rfl rfl dJ1_deleteEntry_187 ?_
        refine zs_aload_n hE 2 rfl rfl dJ1_deleteEntry_188 ?_
        refine zs_callV hE (As := [va_rf x1]) (encA := encV) (ci := 0) rfl (fun y0 => met_J1_fixAfterDeletion K y0 x1) q1916 q98 q1913 q1915 (zq qs19) hd_J1_fixAfterDeletion (by decide) (by decide) rfl (by simp [zcat_rf, zcat_i, zcat_j, zcat_f, zcat_d]) (fun z hz => by cases hz) dJ1_deleteEntry_189 (fun _ => ?_)
        show zS _ 192 _ [] _
        refine zs_sub [2] rfl ?_
        exact sm_J1_deleteEntry_J192 hE x1
      · refine zs_sub [2] rfl ?_
        exact sm_J1_deleteEntry_J192 hE x1
  · refine zs_aload_n hE 0 rfl rfl dJ1_deleteEntry_80 ?_
    refine zs_aload_n hE 2 rfl rfl dJ1_deleteEntry_81 ?_
    refine zs_getR hE (ci := 12) (k := 4) rfl (by decide) in_J33 (Or.inl q1679) (Or.inl rfl) dJ1_deleteEntry_82 (fun v15 => ?_)
    refine zs_putR hE (ci := 12) (k := 4) rfl (by decide) in_J33 (Or.inl q1679) (Or.inl rfl) (Or.inl rfl) (fun h => nomatch h) (tyJ33_ok 4 (by decide)) (Or.inl ⟨_, rfl⟩) dJ1_deleteEntry_85 ?_
    refine zs_aload_n hE 2 rfl rfl dJ1_deleteEntry_88 ?_
    refine zs_getR hE (ci := 12) (k := 4) rfl (by decide) in_J33 (Or.inl q1679) (Or.inl rfl) dJ1_deleteEntry_89 (fun v16 => ?_)
    refine zs_ifnonnull hE 103 (by decide) dJ1_deleteEntry_92 ?_ ?_
    · refine zs_aload_n hE 1 rfl rfl dJ1_deleteEntry_95 ?_
      refine zs_aload_n hE 0 rfl rfl dJ1_deleteEntry_96 ?_
      refine zs_putR hE (ci := 0) (k := 3) rfl (by decide) in_J1 (Or.inl q187) (Or.inl rfl) (Or.inl rfl) (fun h => nomatch h) (tyJ1_ok 3 (by decide)) (Or.inl ⟨_, rfl⟩) dJ1_deleteEntry_97 ?_
      refine zs_goto hE 133 (by decide) dJ1_deleteEntry_100 ?_
      refine zs_sub [1, 2, 0] rfl ?_
      exact sm_J1_deleteEntry_J133 hE x0 x1 t0
    · refine zs_aload_n hE 2 rfl rfl dJ1_deleteEntry_103 ?_
      refine zs_aload_n hE 2 rfl rfl dJ1_deleteEntry_104 ?_
      refine zs_getR hE (ci := 12) (k := 4) rfl (by decide) in_J33 (Or.inl q1679) (Or.inl rfl) dJ1_deleteEntry_105 (fun v18 => ?_)
      refine zs_getR hE (ci := 12) (k := 2) rfl (by decide) in_J33 (Or.inl q1676) (Or.inl rfl) dJ1_deleteEntry_108 (fun v19 => ?_)
      refine zs_acmp_ne hE 125 (by decide) dJ1_deleteEntry_111 ?_ ?_
      · refine zs_aload_n hE 2 rfl rfl dJ1_deleteEntry_114 ?_
        refine zs_getR hE (ci := 12) (k := 4) rfl (by decide) in_J33 (Or.inl q1679) (Or.inl rfl) dJ1_deleteEntry_115 (fun v20 => ?_)
        refine zs_aload_n hE 0 rfl rfl dJ1_deleteEntry_118 ?_
        refine zs_putR hE (ci := 12) (k := 2) rfl (by decide) in_J33 (Or.inl q1676) (Or.inl rfl) (Or.inl rfl) (fun h => nomatch h) (tyJ33_ok 2 (by decide)) (Or.inl ⟨_, rfl⟩) dJ1_deleteEntry_119 ?_
        refine zs_goto hE 133 (by decide) dJ1_deleteEntry_122 ?_
        refine zs_sub [1, 2, 0] rfl ?_
        exact sm_J1_deleteEntry_J133 hE x0 x1 t0
      · refine zs_aload_n hE 2 rfl rfl dJ1_deleteEntry_125 ?_
        refine zs_getR hE (ci := 12) (k := 4) rfl (by decide) in_J33 (Or.inl q1679) (Or.inl rfl) dJ1_deleteEntry_126 (fun v21 => ?_)
        refine zs_aload_n hE 0 rfl rfl dJ1_deleteEntry_129 ?_
        refine zs_putR hE (ci := 12) (k := 3) rfl (by decide) in_J33 (Or.inl q1677) (Or.inl rfl) (Or.inl rfl) (fun h => nomatch h) (tyJ33_ok 3 (by decide)) (Or.inl ⟨_, rfl⟩) dJ1_deleteEntry_130 ?_
        refine zs_sub [1, 2, 0] rfl ?_
        exact sm_J1_deleteEntry_J133 hE x0 x1 t0
theorem sm_J1_deleteEntry_J57 {x : ZX Unit} {K : ZK} (hE : zE x K cJ1_deleteEntry RJ1 "deleteEntry" 3 3 144 encV none []) (x0 : Nat) (x1 : Option Nat) : zS x 57 [(0, va_rf (some x0)), (1, va_rf x1)] [] (s_J1_deleteEntry_J57 K x0 x1) := by
  unfold s_J1_deleteEntry_J57
  refine zs_aload_n hE 1 rfl rfl dJ1_deleteEntry_57 ?_
  refine zs_getR hE (ci := 12) (k := 2) rfl (by decide) in_J33 (Or.inl q1676) (Or.inl rfl) dJ1_deleteEntry_58 (fun v4 => ?_)
  refine zs_ifnull hE 71 (by decide) dJ1_deleteEntry_61 ?_ ?_
  · refine zs_aload_n hE 1 rfl rfl dJ1_deleteEntry_71 ?_
    refine zs_getR hE (ci := 12) (k := 3) rfl (by decide) in_J33 (Or.inl q1677) (Or.inl rfl) dJ1_deleteEntry_72 (fun v5 => ?_)
    exact sm_J1_deleteEntry_J75 hE x0 x1 v5
  · refine zs_aload_n hE 1 rfl rfl dJ1_deleteEntry_64 ?_
    refine zs_getR hE (ci := 12) (k := 2) rfl (by decide) in_J33 (Or.inl q1676) (Or.inl rfl) dJ1_deleteEntry_65 (fun v22 => ?_)
    refine zs_goto hE 75 (by decide) dJ1_deleteEntry_68 ?_
    exact sm_J1_deleteEntry_J75 hE x0 x1 v22
theorem sm_J1_deleteEntry {x : ZX Unit} {K : ZK} (hE : zE x K cJ1_deleteEntry RJ1 "deleteEntry" 3 3 144 encV none []) (this : Nat) (a1 : Option Nat) : zS x 0 [(0, va_rf (some this)), (1, va_rf a1)] [] (s_J1_deleteEntry K this a1) := by
  unfold s_J1_deleteEntry
  refine zs_aload_n hE 0 rfl rfl dJ1_deleteEntry_0 ?_
  refine zs_dup hE (zcat_rf _) dJ1_deleteEntry_1 ?_
  refine zs_getI hE (ci := 0) (k := 5) rfl (by decide) in_J1 (Or.inl q189) (Or.inl rfl) dJ1_deleteEntry_2 (fun v1 => ?_)
  refine zs_iconst hE (v := (1 : Int32)) (by decide) dJ1_deleteEntry_5 ?_
  refine zs_iadd hE dJ1_deleteEntry_6 ?_
  refine zs_putI hE (ci := 0) (k := 5) rfl (by decide) in_J1 (Or.inl q189) (Or.inl rfl) (Or.inl rfl) (fun h => nomatch h) rfl dJ1_deleteEntry_7 ?_
  refine zs_aload_n hE 0 rfl rfl dJ1_deleteEntry_10 ?_
  refine zs_dup hE (zcat_rf _) dJ1_deleteEntry_11 ?_
  refine zs_getI hE (ci := 0) (k := 4) rfl (by decide) in_J1 (Or.inl q188) (Or.inl rfl) dJ1_deleteEntry_12 (fun v2 => ?_)
  refine zs_iconst hE (v := (1 : Int32)) (by decide) dJ1_deleteEntry_15 ?_
  refine zs_isub hE dJ1_deleteEntry_16 ?_
  refine zs_putI hE (ci := 0) (k := 4) rfl (by decide) in_J1 (Or.inl q188) (Or.inl rfl) (Or.inl rfl) (fun h => nomatch h) rfl dJ1_deleteEntry_17 ?_
  refine zs_aload_n hE 1 rfl rfl dJ1_deleteEntry_20 ?_
  refine zs_getR hE (ci := 12) (k := 2) rfl (by decide) in_J33 (Or.inl q1676) (Or.inl rfl) dJ1_deleteEntry_21 (fun v3 => ?_)
  refine zs_ifnull hE 57 (by decide) dJ1_deleteEntry_24 ?_ ?_
  · exact sm_J1_deleteEntry_J57 hE this a1
  · refine zs_aload_n hE 1 rfl rfl dJ1_deleteEntry_27 ?_
    refine zs_getR hE (ci := 12) (k := 3) rfl (by decide) in_J33 (Or.inl q1677) (Or.inl rfl) dJ1_deleteEntry_28 (fun v23 => ?_)
    refine zs_ifnull hE 57 (by decide) dJ1_deleteEntry_31 ?_ ?_
    · exact sm_J1_deleteEntry_J57 hE this a1
    · refine zs_aload_n hE 1 rfl rfl dJ1_deleteEntry_34 ?_
      refine zs_callS hE (As := [va_rf a1]) (encA := encR) (met_J1_successor K a1) q1071 q98 q1912 q1070 hd_J1_successor (by decide) (by decide) rfl (by simp [zcat_rf, zcat_i, zcat_j, zcat_f, zcat_d]) (fun z hz => by cases hz) dJ1_deleteEntry_35 (fun r24 => ?_)
      show zS _ 38 _ [va_rf r24] _
      refine zs_astore_n hE (i := 2) (q := 2) rfl (by decide) (zcat_rf a1) (lv' := [(0, va_rf (some this)), (1, va_rf a1)]) rfl dJ1_deleteEntry_38 ?_
      refine zs_aload_n hE 2 rfl rfl dJ1_deleteEntry_39 ?_
      refine zs_aload_n hE 0 rfl rfl dJ1_deleteEntry_40 ?_
      refine zs_getR hE (ci := 12) (k := 0) rfl (by decide) in_J33 (Or.inl q1672) (Or.inl rfl) dJ1_deleteEntry_41 (fun v25 => ?_)
      refine zs_putR hE (ci := 12) (k := 0) rfl (by decide) in_J33 (Or.inl q1672) (Or.inl rfl) (Or.inl rfl) (fun h => nomatch h) (tyJ33_ok 0 (by decide)) (Or.inl ⟨_, rfl⟩) dJ1_deleteEntry_44 ?_
      refine zs_aload_n hE 2 rfl rfl dJ1_deleteEntry_47 ?_
      refine zs_aload_n hE 0 rfl rfl dJ1_deleteEntry_48 ?_
      refine zs_getR hE (ci := 12) (k := 1) rfl (by decide) in_J33 (Or.inl q1675) (Or.inl rfl) dJ1_deleteEntry_49 (fun v26 => ?_)
      refine zs_putR hE (ci := 12) (k := 1) rfl (by decide) in_J33 (Or.inl q1675) (Or.inl rfl) (Or.inl rfl) (fun h => nomatch h) (tyJ33_ok 1 (by decide)) (Or.inl ⟨_, rfl⟩) dJ1_deleteEntry_52 ?_
      refine zs_aload_n hE 0 rfl rfl dJ1_deleteEntry_55 ?_
      refine zs_astore_n hE (i := 1) (q := 1) rfl (by decide) (zcat_rf (some this)) (lv' := [(2, va_rf r24), (0, va_rf (some this))]) rfl dJ1_deleteEntry_56 ?_
      refine zs_sub [2, 0] rfl ?_
      exact sm_J1_deleteEntry_J57 hE this r24
theorem hd_J1_deleteEntry : (yJ1_deleteEntry).cls ≠ "java/lang/invoke/MethodHandle" ∧ (yJ1_deleteEntry).cls ≠ "java/lang/invoke/VarHandle" ∧ (parseMethodDescriptor (yJ1_deleteEntry).desc).map (fun d => d.parameters.length) = some 1 := by decide +kernel
theorem met_J1_deleteEntry (K : ZK) (this : Nat) (a1 : Option Nat) : zMeth K yJ1_deleteEntry (zws yJ1_deleteEntry cJ1_deleteEntry 3 none) 3 144 [.ref this, va_rf a1] encV (s_J1_deleteEntry K this a1) :=
  fun l G hl hK => zmet_of hl hK (by decide +kernel) rfl rfl (by simp [zsl_nil, zsl_rf, zsl_r, zsl_i, zsl_j, zsl_f, zsl_d]) (fun x hE => by simp only [zla_nil, zla_rf, zla_r, zla_i, zla_j, zla_f, zla_d, Nat.reduceAdd]; exact sm_J1_deleteEntry hE this a1)
theorem sm_J1_remove {x : ZX (Option Nat)} {K : ZK} (hE : zE x K cJ1_remove RJ1 "remove" 4 5 187 encR (Option.some (Jvm.ClassFile.FieldType.object "java/lang/Object")) []) (this : Nat) (a1 : Option Nat) : zS x 0 [(0, va_rf (some this)), (1, va_rf a1)] [] (s_J1_remove K this a1) := by
  unfold s_J1_remove
  refine zs_aload_n hE 0 rfl rfl dJ1_remove_0 ?_
  refine zs_aload_n hE 1 rfl rfl dJ1_remove_1 ?_
  refine zs_callV hE (As := [va_rf a1]) (encA := encR) (ci := 0) rfl (fun y0 => met_J1_getEntry K y0 a1) q1019 q98 q1016 q1017 (zq q1018) hd_J1_getEntry (by decide) (by decide) rfl (by simp [zcat_rf, zcat_i, zcat_j, zcat_f, zcat_d]) (fun z hz => by cases hz) dJ1_remove_2 (fun r1 => ?_)
  show zS _ 5 _ [va_rf r1] _
  refine zs_astore_n hE (i := 2) (q := 2) rfl (by decide) (zcat_rf a1) (lv' := [(0, va_rf (some this)), (1, va_rf a1)]) rfl dJ1_remove_5 ?_
  refine zs_aload_n hE 0 rfl rfl dJ1_remove_6 ?_
  refine zs_ifnonnull hE 12 (by decide) dJ1_remove_7 ?_ ?_
  · refine zs_null hE dJ1_remove_10 ?_
    exact zs_aret hE (Or.inl ⟨_, rfl⟩) dJ1_remove_11
  · refine zs_aload_n hE 0 rfl rfl dJ1_remove_12 ?_
    refine zs_getR hE (ci := 12) (k := 1) rfl (by decide) in_J33 (Or.inl q1675) (Or.inl rfl) dJ1_remove_13 (fun v2 => ?_)
    refine zs_astore_n hE (i := 3) (q := 3) rfl (by decide) (zcat_rf r1) (lv' := [(2, va_rf r1), (0, va_rf (some this)), (1, va_rf a1)]) rfl dJ1_remove_16 ?_
    refine zs_aload_n hE 2 rfl rfl dJ1_remove_17 ?_
    refine zs_aload_n hE 1 rfl rfl dJ1_remove_18 ?_
    refine zs_callV hE (As := [va_rf r1]) (encA := encV) (ci := 0) rfl (fun y0 => met_J1_deleteEntry K y0 r1) q1911 q98 q1908 q1910 (zq qs18) hd_J1_deleteEntry (by decide) (by decide) rfl (by simp [zcat_rf, zcat_i, zcat_j, zcat_f, zcat_d]) (fun z hz => by cases hz) dJ1_remove_19 (fun _ => ?_)
    show zS _ 22 _ [] _
    refine zs_aload_n hE 0 rfl rfl dJ1_remove_22 ?_
    exact zs_aret hE (Or.inl ⟨_, rfl⟩) dJ1_remove_23
theorem hd_J1_remove : (yJ1_remove).cls ≠ "java/lang/invoke/MethodHandle" ∧ (yJ1_remove).cls ≠ "java/lang/invoke/VarHandle" ∧ (parseMethodDescriptor (yJ1_remove).desc).map (fun d => d.parameters.length) = some 1 := by decide +kernel
theorem met_J1_remove (K : ZK) (this : Nat) (a1 : Option Nat) : zMeth K yJ1_remove (zws yJ1_remove cJ1_remove 4 (Option.some (Jvm.ClassFile.FieldType.object "java/lang/Object"))) 5 187 [.ref this, va_rf a1] encR (s_J1_remove K this a1) :=
  fun l G hl hK => zmet_of hl hK (by decide +kernel) rfl rfl (by simp [zsl_nil, zsl_rf, zsl_r, zsl_i, zsl_j, zsl_f, zsl_d]) (fun x hE => by simp only [zla_nil, zla_rf, zla_r, zla_i, zla_j, zla_f, zla_d, Nat.reduceAdd]; exact sm_J1_remove hE this a1)
theorem sm_X2_loses_J39 {x : ZX Int32} {K : ZK} (hE : zE x K cX2_loses RX2 "loses" 2 1 100 encI (Option.some Jvm.ClassFile.FieldType.int) []) (x0 : Nat) (x1 : Int32) (t0 : Int32) (t1 : Int32) (t2 : Nat) : zS x 39 [(0, va_rf (some x0)), (1, .int x1)] [.int t0, .int t1, va_rf (some t2)] (s_X2_loses_J39 K x0 x1 t0 t1 t2) := by
  unfold s_X2_loses_J39
  refine zs_iadd hE dX2_loses_39 ?_
  refine zs_putI hE (ci := 34) (k := 14) rfl (by decide) in_X2 (Or.inl q256) (Or.inl rfl) (Or.inl rfl) (fun h => nomatch h) rfl dX2_loses_40 ?_
  refine zs_aload_n hE 0 rfl rfl dX2_loses_43 ?_
  refine zs_iconst hE (v := (0 : Int32)) (by decide) dX2_loses_44 ?_
  refine zs_putI hE (ci := 34) (k := 1) rfl (by decide) in_X2 (Or.inl q219) (Or.inl rfl) (Or.inl rfl) (fun h => nomatch h) rfl dX2_loses_45 ?_
  refine zs_aload_n hE 0 rfl rfl dX2_loses_48 ?_
  refine zs_iconst hE (v := (-1 : Int32)) (by decide) dX2_loses_49 ?_
  refine zs_putI hE (ci := 34) (k := 2) rfl (by decide) in_X2 (Or.inl q222) (Or.inl rfl) (Or.inl rfl) (fun h => nomatch h) rfl dX2_loses_50 ?_
  refine zs_aload_n hE 0 rfl rfl dX2_loses_53 ?_
  refine zs_null hE dX2_loses_54 ?_
  refine zs_putR hE (ci := 34) (k := 5) rfl (by decide) in_X2 (Or.inl q230) (Or.inl rfl) (Or.inl rfl) (fun h => nomatch h) (tyX2_ok 5 (by decide)) (Or.inl ⟨_, rfl⟩) dX2_loses_55 ?_
  refine zs_iload_n hE 1 rfl rfl dX2_loses_58 ?_
  exact zs_iret hE dX2_loses_59
theorem sm_X2_loses_J20 {x : ZX Int32} {K : ZK} (hE : zE x K cX2_loses RX2 "loses" 2 1 100 encI (Option.some Jvm.ClassFile.FieldType.int) []) (x0 : Nat) (x1 : Int32) (t0 : Int32) (t1 : Int32) (t2 : Nat) : zS x 20 [(0, va_rf (some x0)), (1, .int x1)] [.int t0, .int t1, va_rf (some t2)] (s_X2_loses_J20 K x0 x1 t0 t1 t2) := by
  unfold s_X2_loses_J20
  refine zs_iadd hE dX2_loses_20 ?_
  refine zs_putI hE (ci := 34) (k := 22) rfl (by decide) in_X2 (Or.inl q277) (Or.inl rfl) (Or.inl rfl) (fun h => nomatch h) rfl dX2_loses_21 ?_
  refine zs_aload_n hE 0 rfl rfl dX2_loses_24 ?_
  refine zs_dup hE (zcat_rf _) dX2_loses_25 ?_
  refine zs_getI hE (ci := 34) (k := 14) rfl (by decide) in_X2 (Or.inl q256) (Or.inl rfl) dX2_loses_26 (fun v3 => ?_)
  refine zs_iload_n hE 1 rfl rfl dX2_loses_29 ?_
  refine zs_iconst hE (v := (2 : Int32)) (by decide) dX2_loses_30 ?_
  refine zs_icmp_ne hE 38 (by decide) dX2_loses_31 ?_ ?_
  · refine zs_iconst hE (v := (1 : Int32)) (by decide) dX2_loses_34 ?_
    refine zs_goto hE 39 (by decide) dX2_loses_35 ?_
    exact sm_X2_loses_J39 hE x0 x1 (1 : Int32) v3 x0
  · refine zs_iconst hE (v := (0 : Int32)) (by decide) dX2_loses_38 ?_
    exact sm_X2_loses_J39 hE x0 x1 (0 : Int32) v3 x0
theorem sm_X2_loses {x : ZX Int32} {K : ZK} (hE : zE x K cX2_loses RX2 "loses" 2 1 100 encI (Option.some Jvm.ClassFile.FieldType.int) []) (this : Nat) : zS x 0 [(0, va_rf (some this))] [] (s_X2_loses K this) := by
  unfold s_X2_loses
  refine zs_aload_n hE 0 rfl rfl dX2_loses_0 ?_
  refine zs_getI hE (ci := 34) (k := 1) rfl (by decide) in_X2 (Or.inl q219) (Or.inl rfl) dX2_loses_1 (fun v1 => ?_)
  refine zs_istore_n hE (i := 1) (q := 1) rfl (by decide) (zcat_rf (some this)) (lv' := [(0, va_rf (some this))]) rfl dX2_loses_4 ?_
  refine zs_aload_n hE 1 rfl rfl dX2_loses_5 ?_
  refine zs_dup hE (zcat_rf _) dX2_loses_6 ?_
  refine zs_getI hE (ci := 34) (k := 22) rfl (by decide) in_X2 (Or.inl q277) (Or.inl rfl) dX2_loses_7 (fun v2 => ?_)
  refine zs_iload_n hE 0 rfl rfl dX2_loses_10 ?_
  refine zs_iconst hE (v := (1 : Int32)) (by decide) dX2_loses_11 ?_
  refine zs_icmp_ne hE 19 (by decide) dX2_loses_12 ?_ ?_
  · refine zs_iconst hE (v := (1 : Int32)) (by decide) dX2_loses_15 ?_
    refine zs_goto hE 20 (by decide) dX2_loses_16 ?_
    refine zs_sub [1, 0] rfl ?_
    exact sm_X2_loses_J20 hE this v1 (1 : Int32) v2 this
  · refine zs_iconst hE (v := (0 : Int32)) (by decide) dX2_loses_19 ?_
    refine zs_sub [1, 0] rfl ?_
    exact sm_X2_loses_J20 hE this v1 (0 : Int32) v2 this
theorem hd_X2_loses : (yX2_loses).cls ≠ "java/lang/invoke/MethodHandle" ∧ (yX2_loses).cls ≠ "java/lang/invoke/VarHandle" ∧ (parseMethodDescriptor (yX2_loses).desc).map (fun d => d.parameters.length) = some 0 := by decide +kernel
theorem met_X2_loses (K : ZK) (this : Nat) : zMeth K yX2_loses (zws yX2_loses cX2_loses 2 (Option.some Jvm.ClassFile.FieldType.int)) 1 100 [.ref this] encI (s_X2_loses K this) :=
  fun l G hl hK => zmet_of hl hK (by decide +kernel) rfl rfl (by simp [zsl_nil, zsl_rf, zsl_r, zsl_i, zsl_j, zsl_f, zsl_d]) (fun x hE => by simp only [zla_nil, zla_rf, zla_r, zla_i, zla_j, zla_f, zla_d, Nat.reduceAdd]; exact sm_X2_loses hE this)
theorem sm_X2_leaves_J107 {x : ZX Int32} {K : ZK} (hE : zE x K cX2_leaves RX2 "leaves" 4 8 253 encI (Option.some Jvm.ClassFile.FieldType.int) []) (x2 : Int32) (t0 : Int32) (t1 : Nat) : zS x 107 [(2, .int x2)] [.int t0, va_rf (some t1)] (s_X2_leaves_J107 K x2 t0 t1) := by
  unfold s_X2_leaves_J107
  refine zs_putI hE (ci := 34) (k := 6) rfl (by decide) in_X2 (Or.inl q233) (Or.inl rfl) (Or.inl rfl) (fun h => nomatch h) rfl dX2_leaves_107 ?_
  refine zs_iload_n hE 0 rfl rfl dX2_leaves_110 ?_
  exact zs_iret hE dX2_leaves_111
theorem sm_X2_leaves_J78 {x : ZX Int32} {K : ZK} (hE : zE x K cX2_leaves RX2 "leaves" 4 8 253 encI (Option.some Jvm.ClassFile.FieldType.int) []) (x0 : Nat) (x1 : Int32) (x2 : Int32) : zS x 78 [(0, va_rf (some x0)), (1, .int x1), (2, .int x2)] [] (s_X2_leaves_J78 K x0 x1 x2) := by
  unfold s_X2_leaves_J78
  refine zs_aload_n hE 0 rfl rfl dX2_leaves_78 ?_
  refine zs_getR hE (ci := 34) (k := 0) rfl (by decide) in_X2 (Or.inl q215) (Or.inl rfl) dX2_leaves_79 (fun v9 => ?_)
  refine zs_iload_n hE 1 rfl rfl dX2_leaves_82 ?_
  refine zs_callS hE (As := [.int x1]) (encA := encR) (met_J13_valueOf K x1) q904 q112 q902 q903 hd_J13_valueOf (by decide) (by decide) rfl (by simp [zcat_rf, zcat_i, zcat_j, zcat_f, zcat_d]) (fun z hz => by cases hz) dX2_leaves_83 (fun r10 => ?_)
  show zS _ 86 _ [va_rf r10, va_rf v9] _
  refine zs_callV hE (As := [va_rf r10]) (encA := encR) (ci := 0) rfl (fun y0 => met_J1_remove K y0 r10) q1907 q98 q1904 q1905 (zq q1906) hd_J1_remove (by decide) (by decide) rfl (by simp [zcat_rf, zcat_i, zcat_j, zcat_f, zcat_d]) (fun z hz => by cases hz) dX2_leaves_86 (fun r11 => ?_)
  show zS _ 89 _ [va_rf r11] _
  refine zs_pop hE (zcat_rf _) dX2_leaves_89 ?_
  refine zs_aload_n hE 0 rfl rfl dX2_leaves_90 ?_
  refine zs_aload_n hE 0 rfl rfl dX2_leaves_91 ?_
  refine zs_getI hE (ci := 34) (k := 6) rfl (by decide) in_X2 (Or.inl q233) (Or.inl rfl) dX2_leaves_92 (fun v12 => ?_)
  refine zs_iload_n hE 1 rfl rfl dX2_leaves_95 ?_
  refine zs_icmp_ne hE 103 (by decide) dX2_leaves_96 ?_ ?_
  · refine zs_iconst hE (v := (-1 : Int32)) (by decide) dX2_leaves_99 ?_
    refine zs_goto hE 107 (by decide) dX2_leaves_100 ?_
    refine zs_sub [2] rfl ?_
    exact sm_X2_leaves_J107 hE x2 (-1 : Int32) x0
  · refine zs_aload_n hE 0 rfl rfl dX2_leaves_103 ?_
    refine zs_getI hE (ci := 34) (k := 6) rfl (by decide) in_X2 (Or.inl q233) (Or.inl rfl) dX2_leaves_104 (fun v13 => ?_)
    refine zs_sub [2] rfl ?_
    exact sm_X2_leaves_J107 hE x2 v13 x0
theorem sm_X2_leaves_J76 {x : ZX Int32} {K : ZK} (hE : zE x K cX2_leaves RX2 "leaves" 4 8 253 encI (Option.some Jvm.ClassFile.FieldType.int) []) (x0 : Nat) (x1 : Int32) (t0 : Int32) (t1 : Int32) : zS x 76 [(0, va_rf (some x0)), (1, .int x1)] [.int t0, .int t1] (s_X2_leaves_J76 K x0 x1 t0 t1) := by
  unfold s_X2_leaves_J76
  refine zs_iadd hE dX2_leaves_76 ?_
  refine zs_istore_n hE (i := 2) (q := 2) rfl (by decide) (rfl) (lv' := [(0, va_rf (some x0)), (1, .int x1)]) rfl dX2_leaves_77 ?_
  refine zs_sub [1, 2, 0] rfl ?_
  exact sm_X2_leaves_J78 hE x0 x1 (t1 + t0)
theorem sm_X2_leaves {x : ZX Int32} {K : ZK} (hE : zE x K cX2_leaves RX2 "leaves" 4 8 253 encI (Option.some Jvm.ClassFile.FieldType.int) []) (this : Nat) (a1 : Int32) : zS x 0 [(0, va_rf (some this)), (1, .int a1)] [] (s_X2_leaves K this a1) := by
  unfold s_X2_leaves
  refine zs_aload_n hE 0 rfl rfl dX2_leaves_0 ?_
  refine zs_getR hE (ci := 34) (k := 0) rfl (by decide) in_X2 (Or.inl q215) (Or.inl rfl) dX2_leaves_1 (fun v1 => ?_)
  refine zs_iload_n hE 1 rfl rfl dX2_leaves_4 ?_
  refine zs_callS hE (As := [.int a1]) (encA := encR) (met_J13_valueOf K a1) q904 q112 q902 q903 hd_J13_valueOf (by decide) (by decide) rfl (by simp [zcat_rf, zcat_i, zcat_j, zcat_f, zcat_d]) (fun z hz => by cases hz) dX2_leaves_5 (fun r2 => ?_)
  show zS _ 8 _ [va_rf r2, va_rf v1] _
  refine zs_callV hE (As := [va_rf r2]) (encA := encR) (ci := 0) rfl (fun y0 => met_J1_get K y0 r2) q1015 q98 q1898 q1013 (zq q1014) hd_J1_get (by decide) (by decide) rfl (by simp [zcat_rf, zcat_i, zcat_j, zcat_f, zcat_d]) (fun z hz => by cases hz) dX2_leaves_8 (fun r3 => ?_)
  show zS _ 11 _ [va_rf r3] _
  refine zs_cast hE q1098 (zc1 rfl (Or.inl rfl)) dX2_leaves_11 ?_
  refine zs_getR hE (ci := 37) (k := 1) rfl (by decide) in_X5 (Or.inr ⟨_, zn q1554 rfl⟩) (Or.inl rfl) dX2_leaves_14 (fun v4 => ?_)
  refine zs_callV hE (As := []) (encA := encI) (ci := 11) rfl (fun y0 => met_J31_size K y0) q1102 q133 q1099 q1100 (zq q1101) hd_J31_size (by decide) (by decide) rfl (by simp [zcat_rf, zcat_i, zcat_j, zcat_f, zcat_d]) (fun z hz => by cases hz) dX2_leaves_17 (fun r5 => ?_)
  show zS _ 20 _ [.int r5] _
  refine zs_istore_n hE (i := 2) (q := 2) rfl (by decide) (rfl) (lv' := [(0, va_rf (some this)), (1, .int a1)]) rfl dX2_leaves_20 ?_
  refine zs_aload_n hE 1 rfl rfl dX2_leaves_21 ?_
  refine zs_dup hE (zcat_rf _) dX2_leaves_22 ?_
  refine zs_getI hE (ci := 34) (k := 15) rfl (by decide) in_X2 (Or.inl q258) (Or.inl rfl) dX2_leaves_23 (fun v6 => ?_)
  refine zs_iload_n hE 0 rfl rfl dX2_leaves_26 ?_
  refine zs_iadd hE dX2_leaves_27 ?_
  refine zs_putI hE (ci := 34) (k := 15) rfl (by decide) in_X2 (Or.inl q258) (Or.inl rfl) (Or.inl rfl) (fun h => nomatch h) rfl dX2_leaves_28 ?_
  refine zs_aload_n hE 1 rfl rfl dX2_leaves_31 ?_
  refine zs_iload_n hE 2 rfl rfl dX2_leaves_32 ?_
  refine zs_callV hE (As := [.int a1]) (encA := encI) (ci := 34) rfl (fun y0 => met_X2_next K y0 a1) q901 q96 q1899 q899 (zq q900) hd_X2_next (by decide) (by decide) rfl (by simp [zcat_rf, zcat_i, zcat_j, zcat_f, zcat_d]) (fun z hz => by cases hz) dX2_leaves_33 (fun r7 => ?_)
  show zS _ 36 _ [.int r7] _
  refine zs_istore_n hE (i := 3) (q := 3) rfl (by decide) (rfl) (lv' := [(2, .int r5), (0, va_rf (some this)), (1, .int a1)]) rfl dX2_leaves_36 ?_
  refine zs_aload_n hE 2 rfl rfl dX2_leaves_37 ?_
  refine zs_getI hE (ci := 34) (k := 1) rfl (by decide) in_X2 (Or.inl q219) (Or.inl rfl) dX2_leaves_38 (fun v8 => ?_)
  refine zs_if_eq hE 78 (by decide) dX2_leaves_41 ?_ ?_
  · refine zs_sub [2, 3, 1] rfl ?_
    exact sm_X2_leaves_J78 hE this a1 r5
  · refine zs_aload_n hE 2 rfl rfl dX2_leaves_44 ?_
    refine zs_getI hE (ci := 34) (k := 2) rfl (by decide) in_X2 (Or.inl q222) (Or.inl rfl) dX2_leaves_45 (fun v14 => ?_)
    refine zs_iload_n hE 3 rfl rfl dX2_leaves_48 ?_
    refine zs_icmp_ne hE 78 (by decide) dX2_leaves_49 ?_ ?_
    · refine zs_aload_n hE 2 rfl rfl dX2_leaves_52 ?_
      refine zs_iload_n hE 0 rfl rfl dX2_leaves_53 ?_
      refine zs_putI hE (ci := 34) (k := 2) rfl (by decide) in_X2 (Or.inl q222) (Or.inl rfl) (Or.inl rfl) (fun h => nomatch h) rfl dX2_leaves_54 ?_
      refine zs_iload_n hE 0 rfl rfl dX2_leaves_57 ?_
      refine zs_iload_n hE 3 rfl rfl dX2_leaves_58 ?_
      refine zs_icmp_ne hE 78 (by decide) dX2_leaves_59 ?_ ?_
      · refine zs_iload_n hE 1 rfl rfl dX2_leaves_62 ?_
        refine zs_aload_n hE 2 rfl rfl dX2_leaves_63 ?_
        refine zs_callV hE (As := []) (encA := encI) (ci := 34) rfl (fun y0 => met_X2_loses K y0) q1903 q96 q1900 q1901 (zq q1902) hd_X2_loses (by decide) (by decide) rfl (by simp [zcat_rf, zcat_i, zcat_j, zcat_f, zcat_d]) (fun z hz => by cases hz) dX2_leaves_64 (fun r15 => ?_)
        show zS _ 67 _ [.int r15, .int r5] _
        refine zs_iconst hE (v := (2 : Int32)) (by decide) dX2_leaves_67 ?_
        refine zs_icmp_ne hE 75 (by decide) dX2_leaves_68 ?_ ?_
        · refine zs_iconst hE (v := (1 : Int32)) (by decide) dX2_leaves_71 ?_
          refine zs_goto hE 76 (by decide) dX2_leaves_72 ?_
          refine zs_sub [2, 3] rfl ?_
          exact sm_X2_leaves_J76 hE this a1 (1 : Int32) r5
        · refine zs_iconst hE (v := (0 : Int32)) (by decide) dX2_leaves_75 ?_
          refine zs_sub [2, 3] rfl ?_
          exact sm_X2_leaves_J76 hE this a1 (0 : Int32) r5
      · refine zs_sub [2, 3, 1] rfl ?_
        exact sm_X2_leaves_J78 hE this a1 r5
    · refine zs_sub [2, 3, 1] rfl ?_
      exact sm_X2_leaves_J78 hE this a1 r5
theorem hd_X2_leaves : (yX2_leaves).cls ≠ "java/lang/invoke/MethodHandle" ∧ (yX2_leaves).cls ≠ "java/lang/invoke/VarHandle" ∧ (parseMethodDescriptor (yX2_leaves).desc).map (fun d => d.parameters.length) = some 1 := by decide +kernel
theorem met_X2_leaves (K : ZK) (this : Nat) (a1 : Int32) : zMeth K yX2_leaves (zws yX2_leaves cX2_leaves 4 (Option.some Jvm.ClassFile.FieldType.int)) 8 253 [.ref this, .int a1] encI (s_X2_leaves K this a1) :=
  fun l G hl hK => zmet_of hl hK (by decide +kernel) rfl rfl (by simp [zsl_nil, zsl_rf, zsl_r, zsl_i, zsl_j, zsl_f, zsl_d]) (fun x hE => by simp only [zla_nil, zla_rf, zla_r, zla_i, zla_j, zla_f, zla_d, Nat.reduceAdd]; exact sm_X2_leaves hE this a1)
theorem sm_X1_leave {x : ZX Int32} {K : ZK} (hE : zE x K cX1_leave RX1 "leave" 2 11 318 encI (Option.some Jvm.ClassFile.FieldType.int) []) (this : Nat) (a1 : Int32) : zS x 0 [(0, va_rf (some this)), (1, .int a1)] [] (s_X1_leave K this a1) := by
  unfold s_X1_leave
  refine zs_aload_n hE 0 rfl rfl dX1_leave_0 ?_
  refine zs_iload_n hE 1 rfl rfl dX1_leave_1 ?_
  refine zs_callV hE (As := [.int a1]) (encA := encR) (ci := 24) rfl (fun y0 => met_X1_stationFor K y0 a1) q1892 q95 q1889 q1891 (zq qs17) hd_X1_stationFor (by decide) (by decide) rfl (by simp [zcat_rf, zcat_i, zcat_j, zcat_f, zcat_d]) (fun z hz => by cases hz) dX1_leave_2 (fun r1 => ?_)
  show zS _ 5 _ [va_rf r1] _
  refine zs_pop hE (zcat_rf _) dX1_leave_5 ?_
  refine zs_aload_n hE 0 rfl rfl dX1_leave_6 ?_
  refine zs_callV hE (As := []) (encA := encV) (ci := 24) rfl (fun y0 => met_X1_change K y0) q1832 q95 q1829 q1831 (zq qs14) hd_X1_change (by decide) (by decide) rfl (by simp [zcat_rf, zcat_i, zcat_j, zcat_f, zcat_d]) (fun z hz => by cases hz) dX1_leave_7 (fun _ => ?_)
  show zS _ 10 _ [] _
  refine zs_aload_n hE 0 rfl rfl dX1_leave_10 ?_
  refine zs_getR hE (ci := 24) (k := 0) rfl (by decide) in_X1 (Or.inl q391) (Or.inl rfl) dX1_leave_11 (fun v2 => ?_)
  refine zs_iload_n hE 1 rfl rfl dX1_leave_14 ?_
  refine zs_callV hE (As := [.int a1]) (encA := encI) (ci := 34) rfl (fun y0 => met_X2_leaves K y0 a1) q1897 q96 q1894 q1895 (zq q1896) hd_X2_leaves (by decide) (by decide) rfl (by simp [zcat_rf, zcat_i, zcat_j, zcat_f, zcat_d]) (fun z hz => by cases hz) dX1_leave_15 (fun r3 => ?_)
  show zS _ 18 _ [.int r3] _
  exact zs_iret hE dX1_leave_18
theorem hd_X1_leave : (yX1_leave).cls ≠ "java/lang/invoke/MethodHandle" ∧ (yX1_leave).cls ≠ "java/lang/invoke/VarHandle" ∧ (parseMethodDescriptor (yX1_leave).desc).map (fun d => d.parameters.length) = some 1 := by decide +kernel
theorem met_X1_leave (K : ZK) (this : Nat) (a1 : Int32) : zMeth K yX1_leave (zws yX1_leave cX1_leave 2 (Option.some Jvm.ClassFile.FieldType.int)) 11 318 [.ref this, .int a1] encI (s_X1_leave K this a1) :=
  fun l G hl hK => zmet_of hl hK (by decide +kernel) rfl rfl (by simp [zsl_nil, zsl_rf, zsl_r, zsl_i, zsl_j, zsl_f, zsl_d]) (fun x hE => by simp only [zla_nil, zla_rf, zla_r, zla_i, zla_j, zla_f, zla_d, Nat.reduceAdd]; exact sm_X1_leave hE this a1)
theorem sm_X0_leave {x : ZX Int32} {K : ZK} (hE : zE x K cX0_leave RX0 "leave" 4 12 339 encI (Option.some Jvm.ClassFile.FieldType.int) (tableOf [((0 : Nat), (9 : Nat), (12 : Nat), (13 : Nat))])) (a1 : Option Nat) (a2 : Int32) (a3 : Option Nat) : zS x 0 [(0, va_rf a1), (1, .int a2), (2, va_rf a3)] [] (s_X0_leave K a1 a2 a3) := by
  unfold s_X0_leave
  refine zs_aload_n hE 2 rfl rfl dX0_leave_0 ?_
  refine zs_iconst hE (v := (0 : Int32)) (by decide) dX0_leave_1 ?_
  refine zs_aload_n hE 0 rfl rfl dX0_leave_2 ?_
  refine zs_iload_n hE 1 rfl rfl dX0_leave_3 ?_
  refine zs_callVT hE (As := [.int a2]) (encA := encI) (ci := 24) rfl (fun y0 => met_X1_leave K y0 a2) q1888 q95 q1885 q1886 (zq q1887) hd_X1_leave (by decide) (by decide) rfl (by simp [zcat_rf, zcat_i, zcat_j, zcat_f, zcat_d]) (zhl_cons (zhnd (tableOf []) (tableOf []) ⟨0, 9, 12, 13⟩ rfl (fun w hw => by cases hw) (by decide) (by decide) q1765 (zn q1802 rfl) (fun q1 => ?_)) zhl_nil) dX0_leave_4 (fun r2 => ?_)
  · have hE := zE_q q1 0 hE
    have hq := zqin_q (x := x) q1 0
    refine zs_astore_n hE (i := 3) (q := 3) rfl (by decide) (zcat_rf a3) (lv' := [(0, va_rf a1), (1, .int a2), (2, va_rf a3)]) rfl dX0_leave_12 ?_
    refine zs_iconst hE (v := (1 : Int32)) (by decide) dX0_leave_13 ?_
    exact zs_iret hE dX0_leave_14
  · show zS _ 7 _ [.int r2, .int (0 : Int32), va_rf a3] _
    refine zs_i2l hE dX0_leave_7 ?_
    refine zs_astJ hE dX0_leave_8 ?_
    refine zs_goto hE 15 (by decide) dX0_leave_9 ?_
    refine zs_iconst hE (v := (0 : Int32)) (by decide) dX0_leave_15 ?_
    exact zs_iret hE dX0_leave_16
theorem hd_X0_leave : (yX0_leave).cls ≠ "java/lang/invoke/MethodHandle" ∧ (yX0_leave).cls ≠ "java/lang/invoke/VarHandle" ∧ (parseMethodDescriptor (yX0_leave).desc).map (fun d => d.parameters.length) = some 3 := by decide +kernel
theorem met_X0_leave (K : ZK) (a1 : Option Nat) (a2 : Int32) (a3 : Option Nat) : zMeth K yX0_leave (zwsW yX0_leave cX0_leave 4 (Option.some Jvm.ClassFile.FieldType.int) [((0 : Nat), (9 : Nat), (12 : Nat), (13 : Nat))]) 12 339 [va_rf a1, .int a2, va_rf a3] encI (s_X0_leave K a1 a2 a3) :=
  fun l G hl hK => zmet_ofH hl hK (by decide +kernel) rfl rfl (by simp [zsl_nil, zsl_rf, zsl_r, zsl_i, zsl_j, zsl_f, zsl_d]) (fun x hE => by simp only [zla_nil, zla_rf, zla_r, zla_i, zla_j, zla_f, zla_d, Nat.reduceAdd]; exact sm_X0_leave hE a1 a2 a3)
theorem sm_X7_init {x : ZX Unit} {K : ZK} (hE : zE x K cX7_init RX7 "<init>" 7 1 100 encV none []) (this : Nat) (a1 : Int32) (a2 : Int32) (a3 : Int32) (a4 : Int32) (a5 : Int32) (a6 : Int32) : zS x 0 [(0, va_rf (some this)), (1, .int a1), (2, .int a2), (3, .int a3), (4, .int a4), (5, .int a5), (6, .int a6)] [] (s_X7_init K this a1 a2 a3 a4 a5 a6) := by
  unfold s_X7_init
  refine zs_aload_n hE 0 rfl rfl dX7_init_0 ?_
  refine zs_objInit hE q1930 q169 q170 (by decide) (by first | decide | simp [zcat_rf, zcat_i, zcat_j, zcat_f, zcat_d]) dX7_init_1 ?_
  refine zs_aload_n hE 0 rfl rfl dX7_init_4 ?_
  refine zs_iload_n hE 1 rfl rfl dX7_init_5 ?_
  refine zs_putI hE (ci := 39) (k := 0) rfl (by decide) in_X7 (Or.inl q1931) (Or.inl rfl) (Or.inr ⟨rfl, rfl, rfl⟩) (fun _ => q1931) rfl dX7_init_6 ?_
  refine zs_aload_n hE 0 rfl rfl dX7_init_9 ?_
  refine zs_iload_n hE 2 rfl rfl dX7_init_10 ?_
  refine zs_putI hE (ci := 39) (k := 1) rfl (by decide) in_X7 (Or.inl q1935) (Or.inl rfl) (Or.inr ⟨rfl, rfl, rfl⟩) (fun _ => q1935) rfl dX7_init_11 ?_
  refine zs_aload_n hE 0 rfl rfl dX7_init_14 ?_
  refine zs_iload_n hE 3 rfl rfl dX7_init_15 ?_
  refine zs_putI hE (ci := 39) (k := 2) rfl (by decide) in_X7 (Or.inl q1937) (Or.inl rfl) (Or.inr ⟨rfl, rfl, rfl⟩) (fun _ => q1937) rfl dX7_init_16 ?_
  refine zs_aload_n hE 0 rfl rfl dX7_init_19 ?_
  refine zs_iload hE 4 rfl dX7_init_20 ?_
  refine zs_putI hE (ci := 39) (k := 3) rfl (by decide) in_X7 (Or.inl q1939) (Or.inl rfl) (Or.inr ⟨rfl, rfl, rfl⟩) (fun _ => q1939) rfl dX7_init_22 ?_
  refine zs_aload_n hE 0 rfl rfl dX7_init_25 ?_
  refine zs_iload hE 5 rfl dX7_init_26 ?_
  refine zs_putI hE (ci := 39) (k := 4) rfl (by decide) in_X7 (Or.inl q1942) (Or.inl rfl) (Or.inr ⟨rfl, rfl, rfl⟩) (fun _ => q1942) rfl dX7_init_28 ?_
  refine zs_aload_n hE 0 rfl rfl dX7_init_31 ?_
  refine zs_iload hE 6 rfl dX7_init_32 ?_
  refine zs_putI hE (ci := 39) (k := 5) rfl (by decide) in_X7 (Or.inl q1945) (Or.inl rfl) (Or.inr ⟨rfl, rfl, rfl⟩) (fun _ => q1945) rfl dX7_init_34 ?_
  exact zs_vret hE dX7_init_37
theorem hd_X7_init : (yX7_init).cls ≠ "java/lang/invoke/MethodHandle" ∧ (yX7_init).cls ≠ "java/lang/invoke/VarHandle" ∧ (parseMethodDescriptor (yX7_init).desc).map (fun d => d.parameters.length) = some 6 := by decide +kernel
theorem met_X7_init (K : ZK) (this : Nat) (a1 : Int32) (a2 : Int32) (a3 : Int32) (a4 : Int32) (a5 : Int32) (a6 : Int32) : zMeth K yX7_init (zws yX7_init cX7_init 7 none) 1 100 [.ref this, .int a1, .int a2, .int a3, .int a4, .int a5, .int a6] encV (s_X7_init K this a1 a2 a3 a4 a5 a6) :=
  fun l G hl hK => zmet_of hl hK (by decide +kernel) rfl rfl (by simp [zsl_nil, zsl_rf, zsl_r, zsl_i, zsl_j, zsl_f, zsl_d]) (fun x hE => by simp only [zla_nil, zla_rf, zla_r, zla_i, zla_j, zla_f, zla_d, Nat.reduceAdd]; exact sm_X7_init hE this a1 a2 a3 a4 a5 a6)
theorem sm_J31_rangeCheckForAdd {x : ZX Unit} {K : ZK} (hE : zE x K cJ31_rangeCheckForAdd RJ31 "rangeCheckForAdd" 2 1 100 encV none []) (this : Nat) (a1 : Int32) : zS x 0 [(0, va_rf (some this)), (1, .int a1)] [] (s_J31_rangeCheckForAdd K this a1) := by
  unfold s_J31_rangeCheckForAdd
  refine zs_iload_n hE 1 rfl rfl dJ31_rangeCheckForAdd_0 ?_
  refine zs_aload_n hE 0 rfl rfl dJ31_rangeCheckForAdd_1 ?_
  refine zs_getI hE (ci := 11) (k := 2) rfl (by decide) in_J31 (Or.inl q1534) (Or.inl rfl) dJ31_rangeCheckForAdd_2 (fun v1 => ?_)
  refine zs_icmp_gt hE 12 (by decide) dJ31_rangeCheckForAdd_5 ?_ ?_
  · exact zs_bad
  · refine zs_iload_n hE 1 rfl rfl dJ31_rangeCheckForAdd_8 ?_
    refine zs_if_ge hE 25 (by decide) dJ31_rangeCheckForAdd_9 ?_ ?_
    · exact zs_vret hE dJ31_rangeCheckForAdd_25
    · exact zs_bad
theorem hd_J31_rangeCheckForAdd : (yJ31_rangeCheckForAdd).cls ≠ "java/lang/invoke/MethodHandle" ∧ (yJ31_rangeCheckForAdd).cls ≠ "java/lang/invoke/VarHandle" ∧ (parseMethodDescriptor (yJ31_rangeCheckForAdd).desc).map (fun d => d.parameters.length) = some 1 := by decide +kernel
theorem met_J31_rangeCheckForAdd (K : ZK) (this : Nat) (a1 : Int32) : zMeth K yJ31_rangeCheckForAdd (zws yJ31_rangeCheckForAdd cJ31_rangeCheckForAdd 2 none) 1 100 [.ref this, .int a1] encV (s_J31_rangeCheckForAdd K this a1) :=
  fun l G hl hK => zmet_of hl hK (by decide +kernel) rfl rfl (by simp [zsl_nil, zsl_rf, zsl_r, zsl_i, zsl_j, zsl_f, zsl_d]) (fun x hE => by simp only [zla_nil, zla_rf, zla_r, zla_i, zla_j, zla_f, zla_d, Nat.reduceAdd]; exact sm_J31_rangeCheckForAdd hE this a1)
theorem sm_J31_add_3_J38 {x : ZX Unit} {K : ZK} (hE : zE x K cJ31_add_3 RJ31 "add" 5 6 208 encV none []) (x0 : Nat) (x1 : Int32) (x2 : Option Nat) (x3 : Int32) (x4 : Option Nat) : zS x 38 [(0, va_rf (some x0)), (1, .int x1), (2, va_rf x2), (3, .int x3), (4, va_rf x4)] [] (s_J31_add_3_J38 K x0 x1 x2 x3 x4) := by
  unfold s_J31_add_3_J38
  refine zs_aload hE 4 rfl dJ31_add_3_38 ?_
  refine zs_iload_n hE 1 rfl rfl dJ31_add_3_40 ?_
  refine zs_aload hE 4 rfl dJ31_add_3_41 ?_
  refine zs_iload_n hE 1 rfl rfl dJ31_add_3_43 ?_
  refine zs_iconst hE (v := (1 : Int32)) (by decide) dJ31_add_3_44 ?_
  refine zs_iadd hE dJ31_add_3_45 ?_
  refine zs_iload_n hE 3 rfl rfl dJ31_add_3_46 ?_
  refine zs_iload_n hE 1 rfl rfl dJ31_add_3_47 ?_
  refine zs_isub hE dJ31_add_3_48 ?_
  refine zs_copyR hE q2008 q1173 q1172 q135 (by decide) (by decide) dJ31_add_3_49 ?_
  refine zs_aload hE 4 rfl dJ31_add_3_52 ?_
  refine zs_iload_n hE 1 rfl rfl dJ31_add_3_54 ?_
  refine zs_aload_n hE 2 rfl rfl dJ31_add_3_55 ?_
  refine zs_astR hE dJ31_add_3_56 ?_
  refine zs_aload_n hE 0 rfl rfl dJ31_add_3_57 ?_
  refine zs_iload_n hE 3 rfl rfl dJ31_add_3_58 ?_
  refine zs_iconst hE (v := (1 : Int32)) (by decide) dJ31_add_3_59 ?_
  refine zs_iadd hE dJ31_add_3_60 ?_
  refine zs_putI hE (ci := 11) (k := 2) rfl (by decide) in_J31 (Or.inl q1534) (Or.inl rfl) (Or.inl rfl) (fun h => nomatch h) rfl dJ31_add_3_61 ?_
  exact zs_vret hE dJ31_add_3_64
theorem sm_J31_add_3 {x : ZX Unit} {K : ZK} (hE : zE x K cJ31_add_3 RJ31 "add" 5 6 208 encV none []) (this : Nat) (a1 : Int32) (a2 : Option Nat) : zS x 0 [(0, va_rf (some this)), (1, .int a1), (2, va_rf a2)] [] (s_J31_add_3 K this a1 a2) := by
  unfold s_J31_add_3
  refine zs_aload_n hE 0 rfl rfl dJ31_add_3_0 ?_
  refine zs_iload_n hE 1 rfl rfl dJ31_add_3_1 ?_
  refine zs_callV hE (As := [.int a1]) (encA := encV) (ci := 11) rfl (fun y0 => met_J31_rangeCheckForAdd K y0 a1) q1984 q133 q1981 q1983 (zq qs20) hd_J31_rangeCheckForAdd (by decide) (by decide) rfl (by simp [zcat_rf, zcat_i, zcat_j, zcat_f, zcat_d]) (fun z hz => by cases hz) dJ31_add_3_2 (fun _ => ?_)
  show zS _ 5 _ [] _
  refine zs_aload_n hE 0 rfl rfl dJ31_add_3_5 ?_
  refine zs_dup hE (zcat_rf _) dJ31_add_3_6 ?_
  refine zs_getI hE (ci := 11) (k := 0) rfl (by decide) in_J31 (Or.inl q1538) (Or.inr q1537) dJ31_add_3_7 (fun v1 => ?_)
  refine zs_iconst hE (v := (1 : Int32)) (by decide) dJ31_add_3_10 ?_
  refine zs_iadd hE dJ31_add_3_11 ?_
  refine zs_putI hE (ci := 11) (k := 0) rfl (by decide) in_J31 (Or.inl q1538) (Or.inr q1537) (Or.inl rfl) (fun h => nomatch h) rfl dJ31_add_3_12 ?_
  refine zs_aload_n hE 0 rfl rfl dJ31_add_3_15 ?_
  refine zs_getI hE (ci := 11) (k := 2) rfl (by decide) in_J31 (Or.inl q1534) (Or.inl rfl) dJ31_add_3_16 (fun v2 => ?_)
  refine zs_dup hE (rfl) dJ31_add_3_19 ?_
  refine zs_istore_n hE (i := 3) (q := 3) rfl (by decide) (zcat_rf a2) (lv' := [(0, va_rf (some this)), (1, .int a1), (2, va_rf a2)]) rfl dJ31_add_3_20 ?_
  refine zs_aload_n hE 1 rfl rfl dJ31_add_3_21 ?_
  refine zs_getR hE (ci := 11) (k := 1) rfl (by decide) in_J31 (Or.inl q1531) (Or.inl rfl) dJ31_add_3_22 (fun v3 => ?_)
  refine zs_dup hE (zcat_rf _) dJ31_add_3_25 ?_
  refine zs_astore hE (i := 4) (by decide) (rfl) (lv' := [(3, .int v2), (0, va_rf (some this)), (1, .int a1), (2, va_rf a2)]) rfl dJ31_add_3_26 ?_
  refine zs_lenK hE (t := 4) rfl dJ31_add_3_28 (fun v4 => ?_)
  refine zs_icmp_ne hE 38 (by decide) dJ31_add_3_29 ?_ ?_
  · refine zs_aload_n hE 2 rfl rfl dJ31_add_3_32 ?_
    refine zs_callV hE (As := []) (encA := encR) (ci := 11) rfl (fun y0 => met_J31_grow K y0) q1588 q133 q1585 q1587 (zq qs2) hd_J31_grow (by decide) (by decide) rfl (by simp [zcat_rf, zcat_i, zcat_j, zcat_f, zcat_d]) (fun z hz => by cases hz) dJ31_add_3_33 (fun r5 => ?_)
    show zS _ 36 _ [va_rf r5] _
    refine zs_astore hE (i := 4) (by decide) (rfl) (lv' := [(3, .int v2), (0, va_rf (some this)), (1, .int a1), (2, va_rf a2)]) rfl dJ31_add_3_36 ?_
    refine zs_sub [2, 3, 4, 1, 0] rfl ?_
    exact sm_J31_add_3_J38 hE this a1 a2 v2 r5
  · refine zs_sub [2, 3, 4, 1, 0] rfl ?_
    exact sm_J31_add_3_J38 hE this a1 a2 v2 v3
theorem hd_J31_add_3 : (yJ31_add_3).cls ≠ "java/lang/invoke/MethodHandle" ∧ (yJ31_add_3).cls ≠ "java/lang/invoke/VarHandle" ∧ (parseMethodDescriptor (yJ31_add_3).desc).map (fun d => d.parameters.length) = some 2 := by decide +kernel
theorem met_J31_add_3 (K : ZK) (this : Nat) (a1 : Int32) (a2 : Option Nat) : zMeth K yJ31_add_3 (zws yJ31_add_3 cJ31_add_3 5 none) 6 208 [.ref this, .int a1, va_rf a2] encV (s_J31_add_3 K this a1 a2) :=
  fun l G hl hK => zmet_of hl hK (by decide +kernel) rfl rfl (by simp [zsl_nil, zsl_rf, zsl_r, zsl_i, zsl_j, zsl_f, zsl_d]) (fun x hE => by simp only [zla_nil, zla_rf, zla_r, zla_i, zla_j, zla_f, zla_d, Nat.reduceAdd]; exact sm_J31_add_3 hE this a1 a2)
theorem sm_J20_checkIndex_J9 {x : ZX Int32} {K : ZK} (hE : zE x K cJ20_checkIndex RJ20 "checkIndex" 3 1 100 encI (Option.some Jvm.ClassFile.FieldType.int) []) (x0 : Int32) (x1 : Int32) (x2 : Option Nat) : zS x 9 [(0, .int x0), (1, .int x1), (2, va_rf x2)] [] (s_J20_checkIndex_J9 K x0 x1 x2) := by
  unfold s_J20_checkIndex_J9
  refine zs_aload_n hE 2 rfl rfl dJ20_checkIndex_9 ?_
  refine zs_iload_n hE 0 rfl rfl dJ20_checkIndex_10 ?_
  refine zs_iload_n hE 1 rfl rfl dJ20_checkIndex_11 ?_
  exact zs_bad
theorem sm_J20_checkIndex {x : ZX Int32} {K : ZK} (hE : zE x K cJ20_checkIndex RJ20 "checkIndex" 3 1 100 encI (Option.some Jvm.ClassFile.FieldType.int) []) (a1 : Int32) (a2 : Int32) (a3 : Option Nat) : zS x 0 [(0, .int a1), (1, .int a2), (2, va_rf a3)] [] (s_J20_checkIndex K a1 a2 a3) := by
  unfold s_J20_checkIndex
  refine zs_iload_n hE 0 rfl rfl dJ20_checkIndex_0 ?_
  refine zs_if_lt hE 9 (by decide) dJ20_checkIndex_1 ?_ ?_
  · exact sm_J20_checkIndex_J9 hE a1 a2 a3
  · refine zs_iload_n hE 0 rfl rfl dJ20_checkIndex_4 ?_
    refine zs_iload_n hE 1 rfl rfl dJ20_checkIndex_5 ?_
    refine zs_icmp_lt hE 16 (by decide) dJ20_checkIndex_6 ?_ ?_
    · refine zs_iload_n hE 0 rfl rfl dJ20_checkIndex_16 ?_
      exact zs_iret hE dJ20_checkIndex_17
    · exact sm_J20_checkIndex_J9 hE a1 a2 a3
theorem hd_J20_checkIndex : (yJ20_checkIndex).cls ≠ "java/lang/invoke/MethodHandle" ∧ (yJ20_checkIndex).cls ≠ "java/lang/invoke/VarHandle" ∧ (parseMethodDescriptor (yJ20_checkIndex).desc).map (fun d => d.parameters.length) = some 3 := by decide +kernel
theorem met_J20_checkIndex (K : ZK) (a1 : Int32) (a2 : Int32) (a3 : Option Nat) : zMeth K yJ20_checkIndex (zws yJ20_checkIndex cJ20_checkIndex 3 (Option.some Jvm.ClassFile.FieldType.int)) 1 100 [.int a1, .int a2, va_rf a3] encI (s_J20_checkIndex K a1 a2 a3) :=
  fun l G hl hK => zmet_of hl hK (by decide +kernel) rfl rfl (by simp [zsl_nil, zsl_rf, zsl_r, zsl_i, zsl_j, zsl_f, zsl_d]) (fun x hE => by simp only [zla_nil, zla_rf, zla_r, zla_i, zla_j, zla_f, zla_d, Nat.reduceAdd]; exact sm_J20_checkIndex hE a1 a2 a3)
theorem sm_J14_checkIndex {x : ZX Int32} {K : ZK} (hE : zE x K cJ14_checkIndex RJ14 "checkIndex" 2 2 122 encI (Option.some Jvm.ClassFile.FieldType.int) []) (a1 : Int32) (a2 : Int32) : zS x 0 [(0, .int a1), (1, .int a2)] [] (s_J14_checkIndex K a1 a2) := by
  unfold s_J14_checkIndex
  refine zs_iload_n hE 0 rfl rfl dJ14_checkIndex_0 ?_
  refine zs_iload_n hE 1 rfl rfl dJ14_checkIndex_1 ?_
  refine zs_null hE dJ14_checkIndex_2 ?_
  refine zs_callS hE (As := [.int a1, .int a2, va_rf none]) (encA := encI) (met_J20_checkIndex K a1 a2 none) q1420 q121 q1972 q1419 hd_J20_checkIndex (by decide) (by decide) rfl (by simp [zcat_rf, zcat_i, zcat_j, zcat_f, zcat_d]) (fun z hz => by cases hz) dJ14_checkIndex_3 (fun r1 => ?_)
  show zS _ 6 _ [.int r1] _
  exact zs_iret hE dJ14_checkIndex_6
theorem hd_J14_checkIndex : (yJ14_checkIndex).cls ≠ "java/lang/invoke/MethodHandle" ∧ (yJ14_checkIndex).cls ≠ "java/lang/invoke/VarHandle" ∧ (parseMethodDescriptor (yJ14_checkIndex).desc).map (fun d => d.parameters.length) = some 2 := by decide +kernel
theorem met_J14_checkIndex (K : ZK) (a1 : Int32) (a2 : Int32) : zMeth K yJ14_checkIndex (zws yJ14_checkIndex cJ14_checkIndex 2 (Option.some Jvm.ClassFile.FieldType.int)) 2 122 [.int a1, .int a2] encI (s_J14_checkIndex K a1 a2) :=
  fun l G hl hK => zmet_of hl hK (by decide +kernel) rfl rfl (by simp [zsl_nil, zsl_rf, zsl_r, zsl_i, zsl_j, zsl_f, zsl_d]) (fun x hE => by simp only [zla_nil, zla_rf, zla_r, zla_i, zla_j, zla_f, zla_d, Nat.reduceAdd]; exact sm_J14_checkIndex hE a1 a2)
theorem sm_J31_elementData {x : ZX (Option Nat)} {K : ZK} (hE : zE x K cJ31_elementData RJ31 "elementData" 2 1 100 encR (Option.some (Jvm.ClassFile.FieldType.object "java/lang/Object")) []) (this : Nat) (a1 : Int32) : zS x 0 [(0, va_rf (some this)), (1, .int a1)] [] (s_J31_elementData K this a1) := by
  unfold s_J31_elementData
  refine zs_aload_n hE 0 rfl rfl dJ31_elementData_0 ?_
  refine zs_getR hE (ci := 11) (k := 1) rfl (by decide) in_J31 (Or.inl q1531) (Or.inl rfl) dJ31_elementData_1 (fun v1 => ?_)
  refine zs_iload_n hE 1 rfl rfl dJ31_elementData_4 ?_
  refine zs_aldR hE dJ31_elementData_5 (fun v2 => ?_)
  exact zs_aret hE (Or.inl ⟨_, rfl⟩) dJ31_elementData_6
theorem hd_J31_elementData : (yJ31_elementData).cls ≠ "java/lang/invoke/MethodHandle" ∧ (yJ31_elementData).cls ≠ "java/lang/invoke/VarHandle" ∧ (parseMethodDescriptor (yJ31_elementData).desc).map (fun d => d.parameters.length) = some 1 := by decide +kernel
theorem met_J31_elementData (K : ZK) (this : Nat) (a1 : Int32) : zMeth K yJ31_elementData (zws yJ31_elementData cJ31_elementData 2 (Option.some (Jvm.ClassFile.FieldType.object "java/lang/Object"))) 1 100 [.ref this, .int a1] encR (s_J31_elementData K this a1) :=
  fun l G hl hK => zmet_of hl hK (by decide +kernel) rfl rfl (by simp [zsl_nil, zsl_rf, zsl_r, zsl_i, zsl_j, zsl_f, zsl_d]) (fun x hE => by simp only [zla_nil, zla_rf, zla_r, zla_i, zla_j, zla_f, zla_d, Nat.reduceAdd]; exact sm_J31_elementData hE this a1)
theorem sm_J31_get {x : ZX (Option Nat)} {K : ZK} (hE : zE x K cJ31_get RJ31 "get" 2 3 143 encR (Option.some (Jvm.ClassFile.FieldType.object "java/lang/Object")) []) (this : Nat) (a1 : Int32) : zS x 0 [(0, va_rf (some this)), (1, .int a1)] [] (s_J31_get K this a1) := by
  unfold s_J31_get
  refine zs_iload_n hE 1 rfl rfl dJ31_get_0 ?_
  refine zs_aload_n hE 0 rfl rfl dJ31_get_1 ?_
  refine zs_getI hE (ci := 11) (k := 2) rfl (by decide) in_J31 (Or.inl q1534) (Or.inl rfl) dJ31_get_2 (fun v1 => ?_)
  refine zs_callS hE (As := [.int a1, .int v1]) (encA := encI) (met_J14_checkIndex K a1 v1) q1971 q114 q1969 q1970 hd_J14_checkIndex (by decide) (by decide) rfl (by simp [zcat_rf, zcat_i, zcat_j, zcat_f, zcat_d]) (fun z hz => by cases hz) dJ31_get_5 (fun r2 => ?_)
  show zS _ 8 _ [.int r2] _
  refine zs_pop hE (rfl) dJ31_get_8 ?_
  refine zs_aload_n hE 0 rfl rfl dJ31_get_9 ?_
  refine zs_iload_n hE 1 rfl rfl dJ31_get_10 ?_
  refine zs_callV hE (As := [.int a1]) (encA := encR) (ci := 11) rfl (fun y0 => met_J31_elementData K y0 a1) q1976 q133 q1973 q1974 (zq q1975) hd_J31_elementData (by decide) (by decide) rfl (by simp [zcat_rf, zcat_i, zcat_j, zcat_f, zcat_d]) (fun z hz => by cases hz) dJ31_get_11 (fun r3 => ?_)
  show zS _ 14 _ [va_rf r3] _
  exact zs_aret hE (Or.inl ⟨_, rfl⟩) dJ31_get_14
theorem hd_J31_get : (yJ31_get).cls ≠ "java/lang/invoke/MethodHandle" ∧ (yJ31_get).cls ≠ "java/lang/invoke/VarHandle" ∧ (parseMethodDescriptor (yJ31_get).desc).map (fun d => d.parameters.length) = some 1 := by decide +kernel
theorem met_J31_get (K : ZK) (this : Nat) (a1 : Int32) : zMeth K yJ31_get (zws yJ31_get cJ31_get 2 (Option.some (Jvm.ClassFile.FieldType.object "java/lang/Object"))) 3 143 [.ref this, .int a1] encR (s_J31_get K this a1) :=
  fun l G hl hK => zmet_of hl hK (by decide +kernel) rfl rfl (by simp [zsl_nil, zsl_rf, zsl_r, zsl_i, zsl_j, zsl_f, zsl_d]) (fun x hE => by simp only [zla_nil, zla_rf, zla_r, zla_i, zla_j, zla_f, zla_d, Nat.reduceAdd]; exact sm_J31_get hE this a1)
theorem sm_X5_add_J40 {x : ZX Unit} {K : ZK} (hE : zE x K cX5_add RX5 "add" 3 7 232 encV none []) (x0 : Nat) (x1 : Option Nat) (x2 : Int32) : zS x 40 [(0, va_rf (some x0)), (1, va_rf x1), (2, .int x2)] [] (s_X5_add_J40 K x0 x1 x2) := by
  unfold s_X5_add_J40
  refine zs_aload_n hE 0 rfl rfl dX5_add_40 ?_
  refine zs_getR hE (ci := 37) (k := 1) rfl (by decide) in_X5 (Or.inl q1551) (Or.inl rfl) dX5_add_41 (fun v3 => ?_)
  refine zs_iload_n hE 2 rfl rfl dX5_add_44 ?_
  refine zs_aload_n hE 1 rfl rfl dX5_add_45 ?_
  refine zs_callV hE (As := [.int x2, va_rf x1]) (encA := encV) (ci := 11) rfl (fun y0 => met_J31_add_3 K y0 x2 x1) q1980 q133 q1977 q1978 (zq q1979) hd_J31_add_3 (by decide) (by decide) rfl (by simp [zcat_rf, zcat_i, zcat_j, zcat_f, zcat_d]) (fun z hz => by cases hz) dX5_add_46 (fun _ => ?_)
  show zS _ 49 _ [] _
  exact zs_vret hE dX5_add_49
theorem sm_X5_add_B2 {x : ZX Unit} {K : ZK} (hE : zE x K cX5_add RX5 "add" 3 7 232 encV none []) (x0 : Nat) (x1 : Option Nat) (self2 : Int32 → ZP Unit) (hs2 : ∀ v : Int32, zS x 2 [(0, va_rf (some x0)), (1, va_rf x1), (2, .int v)] [] (self2 v)) (x2 : Int32) : zS x 2 [(0, va_rf (some x0)), (1, va_rf x1), (2, .int x2)] [] (s_X5_add_B2 K x0 x1 self2 x2) := by
  unfold s_X5_add_B2
  refine zs_iload_n hE 2 rfl rfl dX5_add_2 ?_
  refine zs_aload_n hE 0 rfl rfl dX5_add_3 ?_
  refine zs_getR hE (ci := 37) (k := 1) rfl (by decide) in_X5 (Or.inl q1551) (Or.inl rfl) dX5_add_4 (fun v1 => ?_)
  refine zs_callV hE (As := []) (encA := encI) (ci := 11) rfl (fun y0 => met_J31_size K y0) q1102 q133 q1964 q1100 (zq q1101) hd_J31_size (by decide) (by decide) rfl (by simp [zcat_rf, zcat_i, zcat_j, zcat_f, zcat_d]) (fun z hz => by cases hz) dX5_add_7 (fun r2 => ?_)
  show zS _ 10 _ [.int r2, .int x2] _
  refine zs_icmp_ge hE 40 (by decide) dX5_add_10 ?_ ?_
  · exact sm_X5_add_J40 hE x0 x1 x2
  · refine zs_aload_n hE 0 rfl rfl dX5_add_13 ?_
    refine zs_getR hE (ci := 37) (k := 1) rfl (by decide) in_X5 (Or.inl q1551) (Or.inl rfl) dX5_add_14 (fun v4 => ?_)
    refine zs_iload_n hE 2 rfl rfl dX5_add_17 ?_
    refine zs_callV hE (As := [.int x2]) (encA := encR) (ci := 11) rfl (fun y0 => met_J31_get K y0 x2) q1968 q133 q1965 q1966 (zq q1967) hd_J31_get (by decide) (by decide) rfl (by simp [zcat_rf, zcat_i, zcat_j, zcat_f, zcat_d]) (fun z hz => by cases hz) dX5_add_18 (fun r5 => ?_)
    show zS _ 21 _ [va_rf r5] _
    refine zs_cast hE q1576 (zc1 rfl (Or.inl rfl)) dX5_add_21 ?_
    refine zs_getI hE (ci := 39) (k := 3) rfl (by decide) in_X7 (Or.inr ⟨_, zn q1940 rfl⟩) (Or.inl rfl) dX5_add_24 (fun v6 => ?_)
    refine zs_aload_n hE 1 rfl rfl dX5_add_27 ?_
    refine zs_getI hE (ci := 39) (k := 3) rfl (by decide) in_X7 (Or.inr ⟨_, zn q1940 rfl⟩) (Or.inl rfl) dX5_add_28 (fun v7 => ?_)
    refine zs_icmp_lt hE 40 (by decide) dX5_add_31 ?_ ?_
    · exact sm_X5_add_J40 hE x0 x1 x2
    · refine zs_iinc hE 2 (v := (1 : Int32)) rfl (by decide) (by decide) (zcat_rf x1) (lv' := [(0, va_rf (some x0)), (1, va_rf x1)]) rfl dX5_add_34 ?_
      refine zs_goto hE 2 (by decide) dX5_add_37 ?_
      refine zs_sub [1, 2, 0] rfl ?_
      exact hs2 (x2 + (1 : Int32))
theorem sm_X5_add_L2 {x : ZX Unit} {K : ZK} (hE : zE x K cX5_add RX5 "add" 3 7 232 encV none []) (x0 : Nat) (x1 : Option Nat) (v : Int32) : zS x 2 [(0, va_rf (some x0)), (1, va_rf x1), (2, .int v)] [] (s_X5_add_L2 K x0 x1 v) := by
  unfold s_X5_add_L2
  exact zs_loop (lvf := fun v => [(0, va_rf (some x0)), (1, va_rf x1), (2, .int v)]) (fun self2 hs2 v => sm_X5_add_B2 hE x0 x1 self2 hs2 v) v
theorem sm_X5_add {x : ZX Unit} {K : ZK} (hE : zE x K cX5_add RX5 "add" 3 7 232 encV none []) (this : Nat) (a1 : Option Nat) : zS x 0 [(0, va_rf (some this)), (1, va_rf a1)] [] (s_X5_add K this a1) := by
  unfold s_X5_add
  refine zs_iconst hE (v := (0 : Int32)) (by decide) dX5_add_0 ?_
  refine zs_istore_n hE (i := 2) (q := 2) rfl (by decide) (zcat_rf a1) (lv' := [(0, va_rf (some this)), (1, va_rf a1)]) rfl dX5_add_1 ?_
  refine zs_sub [1, 2, 0] rfl ?_
  exact sm_X5_add_L2 hE this a1 (0 : Int32)
theorem hd_X5_add : (yX5_add).cls ≠ "java/lang/invoke/MethodHandle" ∧ (yX5_add).cls ≠ "java/lang/invoke/VarHandle" ∧ (parseMethodDescriptor (yX5_add).desc).map (fun d => d.parameters.length) = some 1 := by decide +kernel
theorem met_X5_add (K : ZK) (this : Nat) (a1 : Option Nat) : zMeth K yX5_add (zws yX5_add cX5_add 3 none) 7 232 [.ref this, va_rf a1] encV (s_X5_add K this a1) :=
  fun l G hl hK => zmet_of hl hK (by decide +kernel) rfl rfl (by simp [zsl_nil, zsl_rf, zsl_r, zsl_i, zsl_j, zsl_f, zsl_d]) (fun x hE => by simp only [zla_nil, zla_rf, zla_r, zla_i, zla_j, zla_f, zla_d, Nat.reduceAdd]; exact sm_X5_add hE this a1)
theorem sm_X1_queue_J42 {x : ZX Int32} {K : ZK} (hE : zE x K cX1_queue RX1 "queue" 7 11 318 encI (Option.some Jvm.ClassFile.FieldType.int) []) (x0 : Nat) (x1 : Int32) (x2 : Int32) (x3 : Int32) (x4 : Int32) (x5 : Option Nat) (t0 : Int32) (t1 : Nat) : zS x 42 [(0, va_rf (some x0)), (1, .int x1), (2, .int x2), (3, .int x3), (4, .int x4), (5, va_rf x5)] [.int t0, va_rf (some t1)] (s_X1_queue_J42 K x0 x1 x2 x3 x4 x5 t0 t1) := by
  unfold s_X1_queue_J42
  refine zs_iconst hE (v := (5 : Int32)) (by decide) dX1_queue_42 ?_
  refine zs_iload_n hE 1 rfl rfl dX1_queue_43 ?_
  refine zs_callV hE (As := [.int t0, .int (5 : Int32), .int x1]) (encA := encV) (ci := 24) rfl (fun y0 => met_X1_refuse K y0 t0 (5 : Int32) x1) q1780 q95 q1777 q1779 (zq qs11) hd_X1_refuse (by decide) (by decide) rfl (by simp [zcat_rf, zcat_i, zcat_j, zcat_f, zcat_d]) (fun z hz => by cases hz) dX1_queue_44 (fun _ => ?_)
  show zS _ 47 _ [] _
  refine zs_aload_n hE 0 rfl rfl dX1_queue_47 ?_
  refine zs_aload hE 5 rfl dX1_queue_48 ?_
  refine zs_getR hE (ci := 37) (k := 1) rfl (by decide) in_X5 (Or.inr ⟨_, zn q1555 rfl⟩) (Or.inl rfl) dX1_queue_50 (fun v2 => ?_)
  refine zs_callV hE (As := []) (encA := encI) (ci := 11) rfl (fun y0 => met_J31_size K y0) q1102 q133 q1924 q1100 (zq q1101) hd_J31_size (by decide) (by decide) rfl (by simp [zcat_rf, zcat_i, zcat_j, zcat_f, zcat_d]) (fun z hz => by cases hz) dX1_queue_53 (fun r3 => ?_)
  show zS _ 56 _ [.int r3, va_rf (some x0)] _
  refine zs_bipush hE (v := (12 : Int32)) (by decide) dX1_queue_56 ?_
  refine zs_callV hE (As := [.int r3, .int (12 : Int32)]) (encA := encV) (ci := 24) rfl (fun y0 => met_X1_hasPlace K y0 r3 (12 : Int32)) q1828 q95 q1825 q1827 (zq qs13) hd_X1_hasPlace (by decide) (by decide) rfl (by simp [zcat_rf, zcat_i, zcat_j, zcat_f, zcat_d]) (fun z hz => by cases hz) dX1_queue_58 (fun _ => ?_)
  show zS _ 61 _ [] _
  refine zs_aload_n hE 0 rfl rfl dX1_queue_61 ?_
  refine zs_callV hE (As := []) (encA := encV) (ci := 24) rfl (fun y0 => met_X1_change K y0) q1832 q95 q1829 q1831 (zq qs14) hd_X1_change (by decide) (by decide) rfl (by simp [zcat_rf, zcat_i, zcat_j, zcat_f, zcat_d]) (fun z hz => by cases hz) dX1_queue_62 (fun _ => ?_)
  show zS _ 65 _ [] _
  refine zs_aload_n hE 0 rfl rfl dX1_queue_65 ?_
  refine zs_getR hE (ci := 24) (k := 0) rfl (by decide) in_X1 (Or.inl q391) (Or.inl rfl) dX1_queue_66 (fun v4 => ?_)
  refine zs_getI hE (ci := 34) (k := 9) rfl (by decide) in_X2 (Or.inr ⟨_, zn q243 rfl⟩) (Or.inl rfl) dX1_queue_69 (fun v5 => ?_)
  refine zs_istore hE (i := 6) (by decide) (zcat_rf x5) (lv' := [(0, va_rf (some x0)), (1, .int x1), (2, .int x2), (3, .int x3), (4, .int x4), (5, va_rf x5)]) rfl dX1_queue_72 ?_
  refine zs_aload_n hE 1 rfl rfl dX1_queue_74 ?_
  refine zs_getR hE (ci := 24) (k := 0) rfl (by decide) in_X1 (Or.inl q391) (Or.inl rfl) dX1_queue_75 (fun v6 => ?_)
  refine zs_getR hE (ci := 34) (k := 0) rfl (by decide) in_X2 (Or.inr ⟨_, zn q218 rfl⟩) (Or.inl rfl) dX1_queue_78 (fun v7 => ?_)
  refine zs_iload_n hE 2 rfl rfl dX1_queue_81 ?_
  refine zs_callS hE (As := [.int x1]) (encA := encR) (met_J13_valueOf K x1) q904 q112 q1819 q903 hd_J13_valueOf (by decide) (by decide) rfl (by simp [zcat_rf, zcat_i, zcat_j, zcat_f, zcat_d]) (fun z hz => by cases hz) dX1_queue_82 (fun r8 => ?_)
  show zS _ 85 _ [va_rf r8, va_rf v7] _
  refine zs_callV hE (As := [va_rf r8]) (encA := encR) (ci := 0) rfl (fun y0 => met_J1_get K y0 r8) q1015 q98 q1893 q1013 (zq q1014) hd_J1_get (by decide) (by decide) rfl (by simp [zcat_rf, zcat_i, zcat_j, zcat_f, zcat_d]) (fun z hz => by cases hz) dX1_queue_85 (fun r9 => ?_)
  show zS _ 88 _ [va_rf r9] _
  refine zs_cast hE q1392 (zc1 rfl (Or.inl rfl)) dX1_queue_88 ?_
  refine zs_new hE (ci := 39) (fs := [.int 0, .int 0, .int 0, .int 0, .int 0, .int 0]) rfl in_X7 tyX7 tyX7_ok q1925 q1926 q139 (fun j hj => by rcases (show j = 0 ∨ j = 1 ∨ j = 2 ∨ j = 3 ∨ j = 4 ∨ j = 5 by omega) with rfl | rfl | rfl | rfl | rfl | rfl <;> rfl) dX1_queue_91 (fun q10 => ?_)
  refine zs_dup hE (zcat_rf _) dX1_queue_94 ?_
  refine zs_iload hE 0 rfl dX1_queue_95 ?_
  refine zs_iload_n hE 2 rfl rfl dX1_queue_97 ?_
  refine zs_iload_n hE 3 rfl rfl dX1_queue_98 ?_
  refine zs_iload_n hE 4 rfl rfl dX1_queue_99 ?_
  refine zs_iload hE 5 rfl dX1_queue_100 ?_
  refine zs_aload_n hE 1 rfl rfl dX1_queue_102 ?_
  refine zs_getR hE (ci := 24) (k := 0) rfl (by decide) in_X1 (Or.inl q391) (Or.inl rfl) dX1_queue_103 (fun v11 => ?_)
  refine zs_getI hE (ci := 34) (k := 8) rfl (by decide) in_X2 (Or.inr ⟨_, zn q241 rfl⟩) (Or.inl rfl) dX1_queue_106 (fun v12 => ?_)
  refine zs_callI hE (As := [.int v5, .int x1, .int x2, .int x3, .int x4, .int v12]) (encA := encV) (met_X7_init K q10 v5 x1 x2 x3 x4 v12) q1929 q139 q1927 q1928 rfl hd_X7_init (by decide) (by decide) rfl (by simp [zcat_rf, zcat_i, zcat_j, zcat_f, zcat_d]) (fun z hz => by cases hz) dX1_queue_109 (fun _ => ?_)
  show zS _ 112 _ [va_rf (some q10), va_rf r9] _
  refine zs_callV hE (As := [va_rf (some q10)]) (encA := encV) (ci := 37) rfl (fun y0 => met_X5_add K y0 (some q10)) q1963 q131 q1960 q1961 (zq q1962) hd_X5_add (by decide) (by decide) rfl (by simp [zcat_rf, zcat_i, zcat_j, zcat_f, zcat_d]) (fun z hz => by cases hz) dX1_queue_112 (fun _ => ?_)
  show zS _ 115 _ [] _
  refine zs_aload_n hE 1 rfl rfl dX1_queue_115 ?_
  refine zs_getR hE (ci := 24) (k := 0) rfl (by decide) in_X1 (Or.inl q391) (Or.inl rfl) dX1_queue_116 (fun v13 => ?_)
  refine zs_dup hE (zcat_rf _) dX1_queue_119 ?_
  refine zs_getI hE (ci := 34) (k := 9) rfl (by decide) in_X2 (Or.inr ⟨_, zn q243 rfl⟩) (Or.inl rfl) dX1_queue_120 (fun v14 => ?_)
  refine zs_iconst hE (v := (1 : Int32)) (by decide) dX1_queue_123 ?_
  refine zs_iadd hE dX1_queue_124 ?_
  refine zs_putI hE (ci := 34) (k := 9) rfl (by decide) in_X2 (Or.inr ⟨_, zn q243 rfl⟩) (Or.inl rfl) (Or.inl rfl) (fun h => nomatch h) rfl dX1_queue_125 ?_
  refine zs_iload hE 0 rfl dX1_queue_128 ?_
  exact zs_iret hE dX1_queue_130
theorem sm_X1_queue {x : ZX Int32} {K : ZK} (hE : zE x K cX1_queue RX1 "queue" 7 11 318 encI (Option.some Jvm.ClassFile.FieldType.int) []) (this : Nat) (a1 : Int32) (a2 : Int32) (a3 : Int32) (a4 : Int32) : zS x 0 [(0, va_rf (some this)), (1, .int a1), (2, .int a2), (3, .int a3), (4, .int a4)] [] (s_X1_queue K this a1 a2 a3 a4) := by
  unfold s_X1_queue
  refine zs_aload_n hE 0 rfl rfl dX1_queue_0 ?_
  refine zs_iload_n hE 1 rfl rfl dX1_queue_1 ?_
  refine zs_callV hE (As := [.int a1]) (encA := encR) (ci := 24) rfl (fun y0 => met_X1_stationFor K y0 a1) q1892 q95 q1889 q1891 (zq qs17) hd_X1_stationFor (by decide) (by decide) rfl (by simp [zcat_rf, zcat_i, zcat_j, zcat_f, zcat_d]) (fun z hz => by cases hz) dX1_queue_2 (fun r1 => ?_)
  show zS _ 5 _ [va_rf r1] _
  refine zs_astore hE (i := 5) (by decide) (rfl) (lv' := [(0, va_rf (some this)), (1, .int a1), (2, .int a2), (3, .int a3), (4, .int a4)]) rfl dX1_queue_5 ?_
  refine zs_aload_n hE 1 rfl rfl dX1_queue_7 ?_
  refine zs_iload_n hE 3 rfl rfl dX1_queue_8 ?_
  refine zs_iconst hE (v := (0 : Int32)) (by decide) dX1_queue_9 ?_
  refine zs_bipush hE (v := (99 : Int32)) (by decide) dX1_queue_10 ?_
  refine zs_callV hE (As := [.int a2, .int (0 : Int32), .int (99 : Int32)]) (encA := encV) (ci := 24) rfl (fun y0 => met_X1_inRange K y0 a2 (0 : Int32) (99 : Int32)) q1773 q95 q1770 q1772 (zq qs10) hd_X1_inRange (by decide) (by decide) rfl (by simp [zcat_rf, zcat_i, zcat_j, zcat_f, zcat_d]) (fun z hz => by cases hz) dX1_queue_12 (fun _ => ?_)
  show zS _ 15 _ [] _
  refine zs_aload_n hE 1 rfl rfl dX1_queue_15 ?_
  refine zs_iload_n hE 4 rfl rfl dX1_queue_16 ?_
  refine zs_iconst hE (v := (0 : Int32)) (by decide) dX1_queue_17 ?_
  refine zs_iconst hE (v := (3 : Int32)) (by decide) dX1_queue_18 ?_
  refine zs_callV hE (As := [.int a3, .int (0 : Int32), .int (3 : Int32)]) (encA := encV) (ci := 24) rfl (fun y0 => met_X1_inRange K y0 a3 (0 : Int32) (3 : Int32)) q1773 q95 q1770 q1772 (zq qs10) hd_X1_inRange (by decide) (by decide) rfl (by simp [zcat_rf, zcat_i, zcat_j, zcat_f, zcat_d]) (fun z hz => by cases hz) dX1_queue_19 (fun _ => ?_)
  show zS _ 22 _ [] _
  refine zs_aload_n hE 1 rfl rfl dX1_queue_22 ?_
  refine zs_iload hE 5 rfl dX1_queue_23 ?_
  refine zs_iconst hE (v := (1 : Int32)) (by decide) dX1_queue_25 ?_
  refine zs_bipush hE (v := (9 : Int32)) (by decide) dX1_queue_26 ?_
  refine zs_callV hE (As := [.int a4, .int (1 : Int32), .int (9 : Int32)]) (encA := encV) (ci := 24) rfl (fun y0 => met_X1_inRange K y0 a4 (1 : Int32) (9 : Int32)) q1773 q95 q1770 q1772 (zq qs10) hd_X1_inRange (by decide) (by decide) rfl (by simp [zcat_rf, zcat_i, zcat_j, zcat_f, zcat_d]) (fun z hz => by cases hz) dX1_queue_28 (fun _ => ?_)
  show zS _ 31 _ [] _
  refine zs_aload_n hE 1 rfl rfl dX1_queue_31 ?_
  refine zs_iload_n hE 2 rfl rfl dX1_queue_32 ?_
  refine zs_iload_n hE 3 rfl rfl dX1_queue_33 ?_
  refine zs_icmp_ne hE 41 (by decide) dX1_queue_34 ?_ ?_
  · refine zs_iconst hE (v := (1 : Int32)) (by decide) dX1_queue_37 ?_
    refine zs_goto hE 42 (by decide) dX1_queue_38 ?_
    refine zs_sub [1, 2, 3, 4, 5, 0] rfl ?_
    exact sm_X1_queue_J42 hE this a1 a2 a3 a4 r1 (1 : Int32) this
  · refine zs_iconst hE (v := (0 : Int32)) (by decide) dX1_queue_41 ?_
    refine zs_sub [1, 2, 3, 4, 5, 0] rfl ?_
    exact sm_X1_queue_J42 hE this a1 a2 a3 a4 r1 (0 : Int32) this
theorem hd_X1_queue : (yX1_queue).cls ≠ "java/lang/invoke/MethodHandle" ∧ (yX1_queue).cls ≠ "java/lang/invoke/VarHandle" ∧ (parseMethodDescriptor (yX1_queue).desc).map (fun d => d.parameters.length) = some 4 := by decide +kernel
theorem met_X1_queue (K : ZK) (this : Nat) (a1 : Int32) (a2 : Int32) (a3 : Int32) (a4 : Int32) : zMeth K yX1_queue (zws yX1_queue cX1_queue 7 (Option.some Jvm.ClassFile.FieldType.int)) 11 318 [.ref this, .int a1, .int a2, .int a3, .int a4] encI (s_X1_queue K this a1 a2 a3 a4) :=
  fun l G hl hK => zmet_of hl hK (by decide +kernel) rfl rfl (by simp [zsl_nil, zsl_rf, zsl_r, zsl_i, zsl_j, zsl_f, zsl_d]) (fun x hE => by simp only [zla_nil, zla_rf, zla_r, zla_i, zla_j, zla_f, zla_d, Nat.reduceAdd]; exact sm_X1_queue hE this a1 a2 a3 a4)
theorem sm_X0_queue {x : ZX Int32} {K : ZK} (hE : zE x K cX0_queue RX0 "queue" 7 12 344 encI (Option.some Jvm.ClassFile.FieldType.int) (tableOf [((0 : Nat), (14 : Nat), (17 : Nat), (13 : Nat))])) (a1 : Option Nat) (a2 : Int32) (a3 : Int32) (a4 : Int32) (a5 : Int32) (a6 : Option Nat) : zS x 0 [(0, va_rf a1), (1, .int a2), (2, .int a3), (3, .int a4), (4, .int a5), (5, va_rf a6)] [] (s_X0_queue K a1 a2 a3 a4 a5 a6) := by
  unfold s_X0_queue
  refine zs_aload hE 5 rfl dX0_queue_0 ?_
  refine zs_iconst hE (v := (0 : Int32)) (by decide) dX0_queue_2 ?_
  refine zs_aload_n hE 0 rfl rfl dX0_queue_3 ?_
  refine zs_iload_n hE 1 rfl rfl dX0_queue_4 ?_
  refine zs_iload_n hE 2 rfl rfl dX0_queue_5 ?_
  refine zs_iload_n hE 3 rfl rfl dX0_queue_6 ?_
  refine zs_iload hE 4 rfl dX0_queue_7 ?_
  refine zs_callVT hE (As := [.int a2, .int a3, .int a4, .int a5]) (encA := encI) (ci := 24) rfl (fun y0 => met_X1_queue K y0 a2 a3 a4 a5) q1923 q95 q1920 q1921 (zq q1922) hd_X1_queue (by decide) (by decide) rfl (by simp [zcat_rf, zcat_i, zcat_j, zcat_f, zcat_d]) (zhl_cons (zhnd (tableOf []) (tableOf []) ⟨0, 14, 17, 13⟩ rfl (fun w hw => by cases hw) (by decide) (by decide) q1765 (zn q1802 rfl) (fun q1 => ?_)) zhl_nil) dX0_queue_9 (fun r2 => ?_)
  · have hE := zE_q q1 0 hE
    have hq := zqin_q (x := x) q1 0
    refine zs_astore hE (i := 6) (by decide) (zcat_rf a6) (lv' := [(0, va_rf a1), (1, .int a2), (2, .int a3), (3, .int a4), (4, .int a5), (5, va_rf a6)]) rfl dX0_queue_17 ?_
    refine zs_iconst hE (v := (1 : Int32)) (by decide) dX0_queue_19 ?_
    exact zs_iret hE dX0_queue_20
  · show zS _ 12 _ [.int r2, .int (0 : Int32), va_rf a6] _
    refine zs_i2l hE dX0_queue_12 ?_
    refine zs_astJ hE dX0_queue_13 ?_
    refine zs_goto hE 21 (by decide) dX0_queue_14 ?_
    refine zs_iconst hE (v := (0 : Int32)) (by decide) dX0_queue_21 ?_
    exact zs_iret hE dX0_queue_22
theorem hd_X0_queue : (yX0_queue).cls ≠ "java/lang/invoke/MethodHandle" ∧ (yX0_queue).cls ≠ "java/lang/invoke/VarHandle" ∧ (parseMethodDescriptor (yX0_queue).desc).map (fun d => d.parameters.length) = some 6 := by decide +kernel
theorem met_X0_queue (K : ZK) (a1 : Option Nat) (a2 : Int32) (a3 : Int32) (a4 : Int32) (a5 : Int32) (a6 : Option Nat) : zMeth K yX0_queue (zwsW yX0_queue cX0_queue 7 (Option.some Jvm.ClassFile.FieldType.int) [((0 : Nat), (14 : Nat), (17 : Nat), (13 : Nat))]) 12 344 [va_rf a1, .int a2, .int a3, .int a4, .int a5, va_rf a6] encI (s_X0_queue K a1 a2 a3 a4 a5 a6) :=
  fun l G hl hK => zmet_ofH hl hK (by decide +kernel) rfl rfl (by simp [zsl_nil, zsl_rf, zsl_r, zsl_i, zsl_j, zsl_f, zsl_d]) (fun x hE => by simp only [zla_nil, zla_rf, zla_r, zla_i, zla_j, zla_f, zla_d, Nat.reduceAdd]; exact sm_X0_queue hE a1 a2 a3 a4 a5 a6)
theorem sm_J31_isEmpty {x : ZX Int32} {K : ZK} (hE : zE x K cJ31_isEmpty RJ31 "isEmpty" 1 1 100 encI (Option.some Jvm.ClassFile.FieldType.boolean) []) (this : Nat) : zS x 0 [(0, va_rf (some this))] [] (s_J31_isEmpty K this) := by
  unfold s_J31_isEmpty
  refine zs_aload_n hE 0 rfl rfl dJ31_isEmpty_0 ?_
  refine zs_getI hE (ci := 11) (k := 2) rfl (by decide) in_J31 (Or.inl q1534) (Or.inl rfl) dJ31_isEmpty_1 (fun v1 => ?_)
  refine zs_if_ne hE 11 (by decide) dJ31_isEmpty_4 ?_ ?_
  · refine zs_iconst hE (v := (1 : Int32)) (by decide) dJ31_isEmpty_7 ?_
    refine zs_goto hE 12 (by decide) dJ31_isEmpty_8 ?_
    exact zs_zret hE rfl dJ31_isEmpty_12
  · refine zs_iconst hE (v := (0 : Int32)) (by decide) dJ31_isEmpty_11 ?_
    exact zs_zret hE rfl dJ31_isEmpty_12
theorem hd_J31_isEmpty : (yJ31_isEmpty).cls ≠ "java/lang/invoke/MethodHandle" ∧ (yJ31_isEmpty).cls ≠ "java/lang/invoke/VarHandle" ∧ (parseMethodDescriptor (yJ31_isEmpty).desc).map (fun d => d.parameters.length) = some 0 := by decide +kernel
theorem met_J31_isEmpty (K : ZK) (this : Nat) : zMeth K yJ31_isEmpty (zws yJ31_isEmpty cJ31_isEmpty 1 (Option.some Jvm.ClassFile.FieldType.boolean)) 1 100 [.ref this] encI (s_J31_isEmpty K this) :=
  fun l G hl hK => zmet_of hl hK (by decide +kernel) rfl rfl (by simp [zsl_nil, zsl_rf, zsl_r, zsl_i, zsl_j, zsl_f, zsl_d]) (fun x hE => by simp only [zla_nil, zla_rf, zla_r, zla_i, zla_j, zla_f, zla_d, Nat.reduceAdd]; exact sm_J31_isEmpty hE this)
theorem sm_J31_fastRemove_J34 {x : ZX Unit} {K : ZK} (hE : zE x K cJ31_fastRemove RJ31 "fastRemove" 4 1 120 encV none []) (x0 : Nat) (x1 : Option Nat) (x3 : Int32) : zS x 34 [(0, va_rf (some x0)), (1, va_rf x1), (3, .int x3)] [] (s_J31_fastRemove_J34 K x0 x1 x3) := by
  unfold s_J31_fastRemove_J34
  refine zs_aload_n hE 1 rfl rfl dJ31_fastRemove_34 ?_
  refine zs_aload_n hE 0 rfl rfl dJ31_fastRemove_35 ?_
  refine zs_iload_n hE 2 rfl rfl dJ31_fastRemove_36 ?_
  refine zs_dup_x1 hE (rfl) (zcat_rf _) dJ31_fastRemove_37 ?_
  refine zs_putI hE (ci := 11) (k := 2) rfl (by decide) in_J31 (Or.inl q1534) (Or.inl rfl) (Or.inl rfl) (fun h => nomatch h) rfl dJ31_fastRemove_38 ?_
  refine zs_null hE dJ31_fastRemove_41 ?_
  refine zs_astR hE dJ31_fastRemove_42 ?_
  exact zs_vret hE dJ31_fastRemove_43
theorem sm_J31_fastRemove {x : ZX Unit} {K : ZK} (hE : zE x K cJ31_fastRemove RJ31 "fastRemove" 4 1 120 encV none []) (this : Nat) (a1 : Option Nat) (a2 : Int32) : zS x 0 [(0, va_rf (some this)), (1, va_rf a1), (2, .int a2)] [] (s_J31_fastRemove K this a1 a2) := by
  unfold s_J31_fastRemove
  refine zs_aload_n hE 0 rfl rfl dJ31_fastRemove_0 ?_
  refine zs_dup hE (zcat_rf _) dJ31_fastRemove_1 ?_
  refine zs_getI hE (ci := 11) (k := 0) rfl (by decide) in_J31 (Or.inl q1538) (Or.inr q1537) dJ31_fastRemove_2 (fun v1 => ?_)
  refine zs_iconst hE (v := (1 : Int32)) (by decide) dJ31_fastRemove_5 ?_
  refine zs_iadd hE dJ31_fastRemove_6 ?_
  refine zs_putI hE (ci := 11) (k := 0) rfl (by decide) in_J31 (Or.inl q1538) (Or.inr q1537) (Or.inl rfl) (fun h => nomatch h) rfl dJ31_fastRemove_7 ?_
  refine zs_aload_n hE 0 rfl rfl dJ31_fastRemove_10 ?_
  refine zs_getI hE (ci := 11) (k := 2) rfl (by decide) in_J31 (Or.inl q1534) (Or.inl rfl) dJ31_fastRemove_11 (fun v2 => ?_)
  refine zs_iconst hE (v := (1 : Int32)) (by decide) dJ31_fastRemove_14 ?_
  refine zs_isub hE dJ31_fastRemove_15 ?_
  refine zs_dup hE (rfl) dJ31_fastRemove_16 ?_
  refine zs_istore_n hE (i := 3) (q := 3) rfl (by decide) (rfl) (lv' := [(0, va_rf (some this)), (1, va_rf a1), (2, .int a2)]) rfl dJ31_fastRemove_17 ?_
  refine zs_iload_n hE 3 rfl rfl dJ31_fastRemove_18 ?_
  refine zs_icmp_le hE 34 (by decide) dJ31_fastRemove_19 ?_ ?_
  · refine zs_sub [1, 2, 0] rfl ?_
    exact sm_J31_fastRemove_J34 hE this a1 (v2 - (1 : Int32))
  · refine zs_aload_n hE 2 rfl rfl dJ31_fastRemove_22 ?_
    refine zs_iload_n hE 3 rfl rfl dJ31_fastRemove_23 ?_
    refine zs_iconst hE (v := (1 : Int32)) (by decide) dJ31_fastRemove_24 ?_
    refine zs_iadd hE dJ31_fastRemove_25 ?_
    refine zs_aload_n hE 2 rfl rfl dJ31_fastRemove_26 ?_
    refine zs_iload_n hE 3 rfl rfl dJ31_fastRemove_27 ?_
    refine zs_iload_n hE 0 rfl rfl dJ31_fastRemove_28 ?_
    refine zs_iload_n hE 3 rfl rfl dJ31_fastRemove_29 ?_
    refine zs_isub hE dJ31_fastRemove_30 ?_
    refine zs_copyR hE q2008 q1173 q1172 q135 (by decide) (by decide) dJ31_fastRemove_31 ?_
    refine zs_sub [1, 2, 0] rfl ?_
    exact sm_J31_fastRemove_J34 hE this a1 (v2 - (1 : Int32))
theorem hd_J31_fastRemove : (yJ31_fastRemove).cls ≠ "java/lang/invoke/MethodHandle" ∧ (yJ31_fastRemove).cls ≠ "java/lang/invoke/VarHandle" ∧ (parseMethodDescriptor (yJ31_fastRemove).desc).map (fun d => d.parameters.length) = some 2 := by decide +kernel
theorem met_J31_fastRemove (K : ZK) (this : Nat) (a1 : Option Nat) (a2 : Int32) : zMeth K yJ31_fastRemove (zws yJ31_fastRemove cJ31_fastRemove 4 none) 1 120 [.ref this, va_rf a1, .int a2] encV (s_J31_fastRemove K this a1 a2) :=
  fun l G hl hK => zmet_of hl hK (by decide +kernel) rfl rfl (by simp [zsl_nil, zsl_rf, zsl_r, zsl_i, zsl_j, zsl_f, zsl_d]) (fun x hE => by simp only [zla_nil, zla_rf, zla_r, zla_i, zla_j, zla_f, zla_d, Nat.reduceAdd]; exact sm_J31_fastRemove hE this a1 a2)
theorem sm_J31_remove {x : ZX (Option Nat)} {K : ZK} (hE : zE x K cJ31_remove RJ31 "remove" 4 3 143 encR (Option.some (Jvm.ClassFile.FieldType.object "java/lang/Object")) []) (this : Nat) (a1 : Int32) : zS x 0 [(0, va_rf (some this)), (1, .int a1)] [] (s_J31_remove K this a1) := by
  unfold s_J31_remove
  refine zs_iload_n hE 1 rfl rfl dJ31_remove_0 ?_
  refine zs_aload_n hE 0 rfl rfl dJ31_remove_1 ?_
  refine zs_getI hE (ci := 11) (k := 2) rfl (by decide) in_J31 (Or.inl q1534) (Or.inl rfl) dJ31_remove_2 (fun v1 => ?_)
  refine zs_callS hE (As := [.int a1, .int v1]) (encA := encI) (met_J14_checkIndex K a1 v1) q1971 q114 q1969 q1970 hd_J14_checkIndex (by decide) (by decide) rfl (by simp [zcat_rf, zcat_i, zcat_j, zcat_f, zcat_d]) (fun z hz => by cases hz) dJ31_remove_5 (fun r2 => ?_)
  show zS _ 8 _ [.int r2] _
  refine zs_pop hE (rfl) dJ31_remove_8 ?_
  refine zs_aload_n hE 0 rfl rfl dJ31_remove_9 ?_
  refine zs_getR hE (ci := 11) (k := 1) rfl (by decide) in_J31 (Or.inl q1531) (Or.inl rfl) dJ31_remove_10 (fun v3 => ?_)
  refine zs_astore_n hE (i := 2) (q := 2) rfl (by decide) (rfl) (lv' := [(0, va_rf (some this)), (1, .int a1)]) rfl dJ31_remove_13 ?_
  refine zs_aload_n hE 0 rfl rfl dJ31_remove_14 ?_
  refine zs_iload_n hE 2 rfl rfl dJ31_remove_15 ?_
  refine zs_aldR hE dJ31_remove_16 (fun v4 => ?_)
  refine zs_astore_n hE (i := 3) (q := 3) rfl (by decide) (zcat_rf v3) (lv' := [(2, va_rf v3), (0, va_rf (some this)), (1, .int a1)]) rfl dJ31_remove_17 ?_
  refine zs_aload_n hE 2 rfl rfl dJ31_remove_18 ?_
  refine zs_aload_n hE 1 rfl rfl dJ31_remove_19 ?_
  refine zs_iload_n hE 3 rfl rfl dJ31_remove_20 ?_
  refine zs_callV hE (As := [va_rf v3, .int a1]) (encA := encV) (ci := 11) rfl (fun y0 => met_J31_fastRemove K y0 v3 a1) q2027 q133 q2024 q2026 (zq qs22) hd_J31_fastRemove (by decide) (by decide) rfl (by simp [zcat_rf, zcat_i, zcat_j, zcat_f, zcat_d]) (fun z hz => by cases hz) dJ31_remove_21 (fun _ => ?_)
  show zS _ 24 _ [] _
  refine zs_aload_n hE 0 rfl rfl dJ31_remove_24 ?_
  exact zs_aret hE (Or.inl ⟨_, rfl⟩) dJ31_remove_25
theorem hd_J31_remove : (yJ31_remove).cls ≠ "java/lang/invoke/MethodHandle" ∧ (yJ31_remove).cls ≠ "java/lang/invoke/VarHandle" ∧ (parseMethodDescriptor (yJ31_remove).desc).map (fun d => d.parameters.length) = some 1 := by decide +kernel
theorem met_J31_remove (K : ZK) (this : Nat) (a1 : Int32) : zMeth K yJ31_remove (zws yJ31_remove cJ31_remove 4 (Option.some (Jvm.ClassFile.FieldType.object "java/lang/Object"))) 3 143 [.ref this, .int a1] encR (s_J31_remove K this a1) :=
  fun l G hl hK => zmet_of hl hK (by decide +kernel) rfl rfl (by simp [zsl_nil, zsl_rf, zsl_r, zsl_i, zsl_j, zsl_f, zsl_d]) (fun x hE => by simp only [zla_nil, zla_rf, zla_r, zla_i, zla_j, zla_f, zla_d, Nat.reduceAdd]; exact sm_J31_remove hE this a1)
theorem sm_X1_drop {x : ZX Int32} {K : ZK} (hE : zE x K cX1_drop RX1 "drop" 4 11 318 encI (Option.some Jvm.ClassFile.FieldType.int) []) (this : Nat) (a1 : Int32) : zS x 0 [(0, va_rf (some this)), (1, .int a1)] [] (s_X1_drop K this a1) := by
  unfold s_X1_drop
  refine zs_aload_n hE 0 rfl rfl dX1_drop_0 ?_
  refine zs_aload_n hE 0 rfl rfl dX1_drop_1 ?_
  refine zs_iload_n hE 1 rfl rfl dX1_drop_2 ?_
  refine zs_callV hE (As := [.int a1]) (encA := encR) (ci := 24) rfl (fun y0 => met_X1_stationFor K y0 a1) q1892 q95 q1889 q1891 (zq qs17) hd_X1_stationFor (by decide) (by decide) rfl (by simp [zcat_rf, zcat_i, zcat_j, zcat_f, zcat_d]) (fun z hz => by cases hz) dX1_drop_3 (fun r1 => ?_)
  show zS _ 6 _ [va_rf r1, va_rf (some this)] _
  refine zs_getR hE (ci := 37) (k := 1) rfl (by decide) in_X5 (Or.inr ⟨_, zn q1555 rfl⟩) (Or.inl rfl) dX1_drop_6 (fun v2 => ?_)
  refine zs_callV hE (As := []) (encA := encI) (ci := 11) rfl (fun y0 => met_J31_isEmpty K y0) q2019 q133 q2016 q2017 (zq q2018) hd_J31_isEmpty (by decide) (by decide) rfl (by simp [zcat_rf, zcat_i, zcat_j, zcat_f, zcat_d]) (fun z hz => by cases hz) dX1_drop_9 (fun r3 => ?_)
  show zS _ 12 _ [.int r3, va_rf (some this)] _
  refine zs_bipush hE (v := (9 : Int32)) (by decide) dX1_drop_12 ?_
  refine zs_iload_n hE 1 rfl rfl dX1_drop_14 ?_
  refine zs_callV hE (As := [.int r3, .int (9 : Int32), .int a1]) (encA := encV) (ci := 24) rfl (fun y0 => met_X1_refuse K y0 r3 (9 : Int32) a1) q1780 q95 q1777 q1779 (zq qs11) hd_X1_refuse (by decide) (by decide) rfl (by simp [zcat_rf, zcat_i, zcat_j, zcat_f, zcat_d]) (fun z hz => by cases hz) dX1_drop_15 (fun _ => ?_)
  show zS _ 18 _ [] _
  refine zs_aload_n hE 0 rfl rfl dX1_drop_18 ?_
  refine zs_callV hE (As := []) (encA := encV) (ci := 24) rfl (fun y0 => met_X1_change K y0) q1832 q95 q1829 q1831 (zq qs14) hd_X1_change (by decide) (by decide) rfl (by simp [zcat_rf, zcat_i, zcat_j, zcat_f, zcat_d]) (fun z hz => by cases hz) dX1_drop_19 (fun _ => ?_)
  show zS _ 22 _ [] _
  refine zs_aload_n hE 0 rfl rfl dX1_drop_22 ?_
  refine zs_getR hE (ci := 24) (k := 0) rfl (by decide) in_X1 (Or.inl q391) (Or.inl rfl) dX1_drop_23 (fun v4 => ?_)
  refine zs_getR hE (ci := 34) (k := 0) rfl (by decide) in_X2 (Or.inr ⟨_, zn q218 rfl⟩) (Or.inl rfl) dX1_drop_26 (fun v5 => ?_)
  refine zs_iload_n hE 1 rfl rfl dX1_drop_29 ?_
  refine zs_callS hE (As := [.int a1]) (encA := encR) (met_J13_valueOf K a1) q904 q112 q1819 q903 hd_J13_valueOf (by decide) (by decide) rfl (by simp [zcat_rf, zcat_i, zcat_j, zcat_f, zcat_d]) (fun z hz => by cases hz) dX1_drop_30 (fun r6 => ?_)
  show zS _ 33 _ [va_rf r6, va_rf v5] _
  refine zs_callV hE (As := [va_rf r6]) (encA := encR) (ci := 0) rfl (fun y0 => met_J1_get K y0 r6) q1015 q98 q1893 q1013 (zq q1014) hd_J1_get (by decide) (by decide) rfl (by simp [zcat_rf, zcat_i, zcat_j, zcat_f, zcat_d]) (fun z hz => by cases hz) dX1_drop_33 (fun r7 => ?_)
  show zS _ 36 _ [va_rf r7] _
  refine zs_cast hE q1392 (zc1 rfl (Or.inl rfl)) dX1_drop_36 ?_
  refine zs_getR hE (ci := 37) (k := 1) rfl (by decide) in_X5 (Or.inr ⟨_, zn q1555 rfl⟩) (Or.inl rfl) dX1_drop_39 (fun v8 => ?_)
  refine zs_astore_n hE (i := 2) (q := 2) rfl (by decide) (rfl) (lv' := [(0, va_rf (some this)), (1, .int a1)]) rfl dX1_drop_42 ?_
  refine zs_aload_n hE 0 rfl rfl dX1_drop_43 ?_
  refine zs_aload_n hE 0 rfl rfl dX1_drop_44 ?_
  refine zs_callV hE (As := []) (encA := encI) (ci := 11) rfl (fun y0 => met_J31_size K y0) q1102 q133 q1924 q1100 (zq q1101) hd_J31_size (by decide) (by decide) rfl (by simp [zcat_rf, zcat_i, zcat_j, zcat_f, zcat_d]) (fun z hz => by cases hz) dX1_drop_45 (fun r9 => ?_)
  show zS _ 48 _ [.int r9, va_rf v8] _
  refine zs_iconst hE (v := (1 : Int32)) (by decide) dX1_drop_48 ?_
  refine zs_isub hE dX1_drop_49 ?_
  refine zs_callV hE (As := [.int (r9 - (1 : Int32))]) (encA := encR) (ci := 11) rfl (fun y0 => met_J31_remove K y0 (r9 - (1 : Int32))) q2023 q133 q2020 q2021 (zq q2022) hd_J31_remove (by decide) (by decide) rfl (by simp [zcat_rf, zcat_i, zcat_j, zcat_f, zcat_d]) (fun z hz => by cases hz) dX1_drop_50 (fun r10 => ?_)
  show zS _ 53 _ [va_rf r10] _
  refine zs_cast hE q1925 (zc1 rfl (Or.inl rfl)) dX1_drop_53 ?_
  refine zs_astore_n hE (i := 3) (q := 3) rfl (by decide) (zcat_rf v8) (lv' := [(2, va_rf v8), (0, va_rf (some this)), (1, .int a1)]) rfl dX1_drop_56 ?_
  refine zs_aload_n hE 2 rfl rfl dX1_drop_57 ?_
  refine zs_getR hE (ci := 24) (k := 0) rfl (by decide) in_X1 (Or.inl q391) (Or.inl rfl) dX1_drop_58 (fun v11 => ?_)
  refine zs_dup hE (zcat_rf _) dX1_drop_61 ?_
  refine zs_getI hE (ci := 34) (k := 16) rfl (by decide) in_X2 (Or.inr ⟨_, zn q261 rfl⟩) (Or.inl rfl) dX1_drop_62 (fun v12 => ?_)
  refine zs_iconst hE (v := (1 : Int32)) (by decide) dX1_drop_65 ?_
  refine zs_iadd hE dX1_drop_66 ?_
  refine zs_putI hE (ci := 34) (k := 16) rfl (by decide) in_X2 (Or.inr ⟨_, zn q261 rfl⟩) (Or.inl rfl) (Or.inl rfl) (fun h => nomatch h) rfl dX1_drop_67 ?_
  refine zs_aload_n hE 0 rfl rfl dX1_drop_70 ?_
  refine zs_getI hE (ci := 39) (k := 0) rfl (by decide) in_X7 (Or.inr ⟨_, zn q1934 rfl⟩) (Or.inl rfl) dX1_drop_71 (fun v13 => ?_)
  exact zs_iret hE dX1_drop_74
theorem hd_X1_drop : (yX1_drop).cls ≠ "java/lang/invoke/MethodHandle" ∧ (yX1_drop).cls ≠ "java/lang/invoke/VarHandle" ∧ (parseMethodDescriptor (yX1_drop).desc).map (fun d => d.parameters.length) = some 1 := by decide +kernel
theorem met_X1_drop (K : ZK) (this : Nat) (a1 : Int32) : zMeth K yX1_drop (zws yX1_drop cX1_drop 4 (Option.some Jvm.ClassFile.FieldType.int)) 11 318 [.ref this, .int a1] encI (s_X1_drop K this a1) :=
  fun l G hl hK => zmet_of hl hK (by decide +kernel) rfl rfl (by simp [zsl_nil, zsl_rf, zsl_r, zsl_i, zsl_j, zsl_f, zsl_d]) (fun x hE => by simp only [zla_nil, zla_rf, zla_r, zla_i, zla_j, zla_f, zla_d, Nat.reduceAdd]; exact sm_X1_drop hE this a1)
theorem sm_X0_drop {x : ZX Int32} {K : ZK} (hE : zE x K cX0_drop RX0 "drop" 4 12 341 encI (Option.some Jvm.ClassFile.FieldType.int) (tableOf [((0 : Nat), (9 : Nat), (12 : Nat), (13 : Nat))])) (a1 : Option Nat) (a2 : Int32) (a3 : Option Nat) : zS x 0 [(0, va_rf a1), (1, .int a2), (2, va_rf a3)] [] (s_X0_drop K a1 a2 a3) := by
  unfold s_X0_drop
  refine zs_aload_n hE 2 rfl rfl dX0_drop_0 ?_
  refine zs_iconst hE (v := (0 : Int32)) (by decide) dX0_drop_1 ?_
  refine zs_aload_n hE 0 rfl rfl dX0_drop_2 ?_
  refine zs_iload_n hE 1 rfl rfl dX0_drop_3 ?_
  refine zs_callVT hE (As := [.int a2]) (encA := encI) (ci := 24) rfl (fun y0 => met_X1_drop K y0 a2) q2015 q95 q2012 q2013 (zq q2014) hd_X1_drop (by decide) (by decide) rfl (by simp [zcat_rf, zcat_i, zcat_j, zcat_f, zcat_d]) (zhl_cons (zhnd (tableOf []) (tableOf []) ⟨0, 9, 12, 13⟩ rfl (fun w hw => by cases hw) (by decide) (by decide) q1765 (zn q1802 rfl) (fun q1 => ?_)) zhl_nil) dX0_drop_4 (fun r2 => ?_)
  · have hE := zE_q q1 0 hE
    have hq := zqin_q (x := x) q1 0
    refine zs_astore_n hE (i := 3) (q := 3) rfl (by decide) (zcat_rf a3) (lv' := [(0, va_rf a1), (1, .int a2), (2, va_rf a3)]) rfl dX0_drop_12 ?_
    refine zs_iconst hE (v := (1 : Int32)) (by decide) dX0_drop_13 ?_
    exact zs_iret hE dX0_drop_14
  · show zS _ 7 _ [.int r2, .int (0 : Int32), va_rf a3] _
    refine zs_i2l hE dX0_drop_7 ?_
    refine zs_astJ hE dX0_drop_8 ?_
    refine zs_goto hE 15 (by decide) dX0_drop_9 ?_
    refine zs_iconst hE (v := (0 : Int32)) (by decide) dX0_drop_15 ?_
    exact zs_iret hE dX0_drop_16
theorem hd_X0_drop : (yX0_drop).cls ≠ "java/lang/invoke/MethodHandle" ∧ (yX0_drop).cls ≠ "java/lang/invoke/VarHandle" ∧ (parseMethodDescriptor (yX0_drop).desc).map (fun d => d.parameters.length) = some 3 := by decide +kernel
theorem met_X0_drop (K : ZK) (a1 : Option Nat) (a2 : Int32) (a3 : Option Nat) : zMeth K yX0_drop (zwsW yX0_drop cX0_drop 4 (Option.some Jvm.ClassFile.FieldType.int) [((0 : Nat), (9 : Nat), (12 : Nat), (13 : Nat))]) 12 341 [va_rf a1, .int a2, va_rf a3] encI (s_X0_drop K a1 a2 a3) :=
  fun l G hl hK => zmet_ofH hl hK (by decide +kernel) rfl rfl (by simp [zsl_nil, zsl_rf, zsl_r, zsl_i, zsl_j, zsl_f, zsl_d]) (fun x hE => by simp only [zla_nil, zla_rf, zla_r, zla_i, zla_j, zla_f, zla_d, Nat.reduceAdd]; exact sm_X0_drop hE a1 a2 a3)
theorem sm_X1_monitor_J23 {x : ZX Int32} {K : ZK} (hE : zE x K cX1_monitor RX1 "monitor" 3 11 318 encI (Option.some Jvm.ClassFile.FieldType.int) []) (x0 : Nat) (x1 : Int32) (t0 : Int32) (t1 : Nat) : zS x 23 [(0, va_rf (some x0)), (1, .int x1)] [.int t0, va_rf (some t1)] (s_X1_monitor_J23 K x0 x1 t0 t1) := by
  unfold s_X1_monitor_J23
  refine zs_bipush hE (v := (8 : Int32)) (by decide) dX1_monitor_23 ?_
  refine zs_iload_n hE 1 rfl rfl dX1_monitor_25 ?_
  refine zs_callV hE (As := [.int t0, .int (8 : Int32), .int x1]) (encA := encV) (ci := 24) rfl (fun y0 => met_X1_refuse K y0 t0 (8 : Int32) x1) q1780 q95 q1777 q1779 (zq qs11) hd_X1_refuse (by decide) (by decide) rfl (by simp [zcat_rf, zcat_i, zcat_j, zcat_f, zcat_d]) (fun z hz => by cases hz) dX1_monitor_26 (fun _ => ?_)
  show zS _ 29 _ [] _
  refine zs_aload_n hE 0 rfl rfl dX1_monitor_29 ?_
  refine zs_callV hE (As := []) (encA := encV) (ci := 24) rfl (fun y0 => met_X1_change K y0) q1832 q95 q1829 q1831 (zq qs14) hd_X1_change (by decide) (by decide) rfl (by simp [zcat_rf, zcat_i, zcat_j, zcat_f, zcat_d]) (fun z hz => by cases hz) dX1_monitor_30 (fun _ => ?_)
  show zS _ 33 _ [] _
  refine zs_aload_n hE 0 rfl rfl dX1_monitor_33 ?_
  refine zs_getR hE (ci := 24) (k := 0) rfl (by decide) in_X1 (Or.inl q391) (Or.inl rfl) dX1_monitor_34 (fun v4 => ?_)
  refine zs_getI hE (ci := 34) (k := 6) rfl (by decide) in_X2 (Or.inr ⟨_, zn q235 rfl⟩) (Or.inl rfl) dX1_monitor_37 (fun v5 => ?_)
  refine zs_istore_n hE (i := 2) (q := 2) rfl (by decide) (rfl) (lv' := [(0, va_rf (some x0)), (1, .int x1)]) rfl dX1_monitor_40 ?_
  refine zs_aload_n hE 1 rfl rfl dX1_monitor_41 ?_
  refine zs_getR hE (ci := 24) (k := 0) rfl (by decide) in_X1 (Or.inl q391) (Or.inl rfl) dX1_monitor_42 (fun v6 => ?_)
  refine zs_iload_n hE 2 rfl rfl dX1_monitor_45 ?_
  refine zs_putI hE (ci := 34) (k := 6) rfl (by decide) in_X2 (Or.inr ⟨_, zn q235 rfl⟩) (Or.inl rfl) (Or.inl rfl) (fun h => nomatch h) rfl dX1_monitor_46 ?_
  refine zs_iload_n hE 0 rfl rfl dX1_monitor_49 ?_
  exact zs_iret hE dX1_monitor_50
theorem sm_X1_monitor {x : ZX Int32} {K : ZK} (hE : zE x K cX1_monitor RX1 "monitor" 3 11 318 encI (Option.some Jvm.ClassFile.FieldType.int) []) (this : Nat) (a1 : Int32) : zS x 0 [(0, va_rf (some this)), (1, .int a1)] [] (s_X1_monitor K this a1) := by
  unfold s_X1_monitor
  refine zs_aload_n hE 0 rfl rfl dX1_monitor_0 ?_
  refine zs_iload_n hE 1 rfl rfl dX1_monitor_1 ?_
  refine zs_callV hE (As := [.int a1]) (encA := encR) (ci := 24) rfl (fun y0 => met_X1_stationFor K y0 a1) q1892 q95 q1889 q1891 (zq qs17) hd_X1_stationFor (by decide) (by decide) rfl (by simp [zcat_rf, zcat_i, zcat_j, zcat_f, zcat_d]) (fun z hz => by cases hz) dX1_monitor_2 (fun r1 => ?_)
  show zS _ 5 _ [va_rf r1] _
  refine zs_pop hE (zcat_rf _) dX1_monitor_5 ?_
  refine zs_aload_n hE 0 rfl rfl dX1_monitor_6 ?_
  refine zs_aload_n hE 0 rfl rfl dX1_monitor_7 ?_
  refine zs_getR hE (ci := 24) (k := 0) rfl (by decide) in_X1 (Or.inl q391) (Or.inl rfl) dX1_monitor_8 (fun v2 => ?_)
  refine zs_getI hE (ci := 34) (k := 6) rfl (by decide) in_X2 (Or.inr ⟨_, zn q235 rfl⟩) (Or.inl rfl) dX1_monitor_11 (fun v3 => ?_)
  refine zs_iload_n hE 1 rfl rfl dX1_monitor_14 ?_
  refine zs_icmp_ne hE 22 (by decide) dX1_monitor_15 ?_ ?_
  · refine zs_iconst hE (v := (1 : Int32)) (by decide) dX1_monitor_18 ?_
    refine zs_goto hE 23 (by decide) dX1_monitor_19 ?_
    exact sm_X1_monitor_J23 hE this a1 (1 : Int32) this
  · refine zs_iconst hE (v := (0 : Int32)) (by decide) dX1_monitor_22 ?_
    exact sm_X1_monitor_J23 hE this a1 (0 : Int32) this
theorem hd_X1_monitor : (yX1_monitor).cls ≠ "java/lang/invoke/MethodHandle" ∧ (yX1_monitor).cls ≠ "java/lang/invoke/VarHandle" ∧ (parseMethodDescriptor (yX1_monitor).desc).map (fun d => d.parameters.length) = some 1 := by decide +kernel
theorem met_X1_monitor (K : ZK) (this : Nat) (a1 : Int32) : zMeth K yX1_monitor (zws yX1_monitor cX1_monitor 3 (Option.some Jvm.ClassFile.FieldType.int)) 11 318 [.ref this, .int a1] encI (s_X1_monitor K this a1) :=
  fun l G hl hK => zmet_of hl hK (by decide +kernel) rfl rfl (by simp [zsl_nil, zsl_rf, zsl_r, zsl_i, zsl_j, zsl_f, zsl_d]) (fun x hE => by simp only [zla_nil, zla_rf, zla_r, zla_i, zla_j, zla_f, zla_d, Nat.reduceAdd]; exact sm_X1_monitor hE this a1)
theorem sm_X0_monitor {x : ZX Int32} {K : ZK} (hE : zE x K cX0_monitor RX0 "monitor" 4 12 340 encI (Option.some Jvm.ClassFile.FieldType.int) (tableOf [((0 : Nat), (9 : Nat), (12 : Nat), (13 : Nat))])) (a1 : Option Nat) (a2 : Int32) (a3 : Option Nat) : zS x 0 [(0, va_rf a1), (1, .int a2), (2, va_rf a3)] [] (s_X0_monitor K a1 a2 a3) := by
  unfold s_X0_monitor
  refine zs_aload_n hE 2 rfl rfl dX0_monitor_0 ?_
  refine zs_iconst hE (v := (0 : Int32)) (by decide) dX0_monitor_1 ?_
  refine zs_aload_n hE 0 rfl rfl dX0_monitor_2 ?_
  refine zs_iload_n hE 1 rfl rfl dX0_monitor_3 ?_
  refine zs_callVT hE (As := [.int a2]) (encA := encI) (ci := 24) rfl (fun y0 => met_X1_monitor K y0 a2) q2034 q95 q2031 q2032 (zq q2033) hd_X1_monitor (by decide) (by decide) rfl (by simp [zcat_rf, zcat_i, zcat_j, zcat_f, zcat_d]) (zhl_cons (zhnd (tableOf []) (tableOf []) ⟨0, 9, 12, 13⟩ rfl (fun w hw => by cases hw) (by decide) (by decide) q1765 (zn q1802 rfl) (fun q1 => ?_)) zhl_nil) dX0_monitor_4 (fun r2 => ?_)
  · have hE := zE_q q1 0 hE
    have hq := zqin_q (x := x) q1 0
    refine zs_astore_n hE (i := 3) (q := 3) rfl (by decide) (zcat_rf a3) (lv' := [(0, va_rf a1), (1, .int a2), (2, va_rf a3)]) rfl dX0_monitor_12 ?_
    refine zs_iconst hE (v := (1 : Int32)) (by decide) dX0_monitor_13 ?_
    exact zs_iret hE dX0_monitor_14
  · show zS _ 7 _ [.int r2, .int (0 : Int32), va_rf a3] _
    refine zs_i2l hE dX0_monitor_7 ?_
    refine zs_astJ hE dX0_monitor_8 ?_
    refine zs_goto hE 15 (by decide) dX0_monitor_9 ?_
    refine zs_iconst hE (v := (0 : Int32)) (by decide) dX0_monitor_15 ?_
    exact zs_iret hE dX0_monitor_16
theorem hd_X0_monitor : (yX0_monitor).cls ≠ "java/lang/invoke/MethodHandle" ∧ (yX0_monitor).cls ≠ "java/lang/invoke/VarHandle" ∧ (parseMethodDescriptor (yX0_monitor).desc).map (fun d => d.parameters.length) = some 3 := by decide +kernel
theorem met_X0_monitor (K : ZK) (a1 : Option Nat) (a2 : Int32) (a3 : Option Nat) : zMeth K yX0_monitor (zwsW yX0_monitor cX0_monitor 4 (Option.some Jvm.ClassFile.FieldType.int) [((0 : Nat), (9 : Nat), (12 : Nat), (13 : Nat))]) 12 340 [va_rf a1, .int a2, va_rf a3] encI (s_X0_monitor K a1 a2 a3) :=
  fun l G hl hK => zmet_ofH hl hK (by decide +kernel) rfl rfl (by simp [zsl_nil, zsl_rf, zsl_r, zsl_i, zsl_j, zsl_f, zsl_d]) (fun x hE => by simp only [zla_nil, zla_rf, zla_r, zla_i, zla_j, zla_f, zla_d, Nat.reduceAdd]; exact sm_X0_monitor hE a1 a2 a3)
theorem sm_X2_tokenComes {x : ZX Unit} {K : ZK} (hE : zE x K cX2_tokenComes RX2 "tokenComes" 3 1 100 encV none []) (this : Nat) (a1 : Int32) (a2 : Int32) : zS x 0 [(0, va_rf (some this)), (1, .int a1), (2, .int a2)] [] (s_X2_tokenComes K this a1 a2) := by
  unfold s_X2_tokenComes
  refine zs_aload_n hE 0 rfl rfl dX2_tokenComes_0 ?_
  refine zs_iconst hE (v := (1 : Int32)) (by decide) dX2_tokenComes_1 ?_
  refine zs_putI hE (ci := 34) (k := 1) rfl (by decide) in_X2 (Or.inl q219) (Or.inl rfl) (Or.inl rfl) (fun h => nomatch h) rfl dX2_tokenComes_2 ?_
  refine zs_aload_n hE 0 rfl rfl dX2_tokenComes_5 ?_
  refine zs_iload_n hE 1 rfl rfl dX2_tokenComes_6 ?_
  refine zs_putI hE (ci := 34) (k := 2) rfl (by decide) in_X2 (Or.inl q222) (Or.inl rfl) (Or.inl rfl) (fun h => nomatch h) rfl dX2_tokenComes_7 ?_
  refine zs_aload_n hE 0 rfl rfl dX2_tokenComes_10 ?_
  refine zs_iload_n hE 2 rfl rfl dX2_tokenComes_11 ?_
  refine zs_putI hE (ci := 34) (k := 3) rfl (by decide) in_X2 (Or.inl q225) (Or.inl rfl) (Or.inl rfl) (fun h => nomatch h) rfl dX2_tokenComes_12 ?_
  refine zs_aload_n hE 0 rfl rfl dX2_tokenComes_15 ?_
  refine zs_iconst hE (v := (0 : Int32)) (by decide) dX2_tokenComes_16 ?_
  refine zs_putI hE (ci := 34) (k := 4) rfl (by decide) in_X2 (Or.inl q228) (Or.inl rfl) (Or.inl rfl) (fun h => nomatch h) rfl dX2_tokenComes_17 ?_
  refine zs_aload_n hE 0 rfl rfl dX2_tokenComes_20 ?_
  refine zs_null hE dX2_tokenComes_21 ?_
  refine zs_putR hE (ci := 34) (k := 5) rfl (by decide) in_X2 (Or.inl q230) (Or.inl rfl) (Or.inl rfl) (fun h => nomatch h) (tyX2_ok 5 (by decide)) (Or.inl ⟨_, rfl⟩) dX2_tokenComes_22 ?_
  exact zs_vret hE dX2_tokenComes_25
theorem hd_X2_tokenComes : (yX2_tokenComes).cls ≠ "java/lang/invoke/MethodHandle" ∧ (yX2_tokenComes).cls ≠ "java/lang/invoke/VarHandle" ∧ (parseMethodDescriptor (yX2_tokenComes).desc).map (fun d => d.parameters.length) = some 2 := by decide +kernel
theorem met_X2_tokenComes (K : ZK) (this : Nat) (a1 : Int32) (a2 : Int32) : zMeth K yX2_tokenComes (zws yX2_tokenComes cX2_tokenComes 3 none) 1 100 [.ref this, .int a1, .int a2] encV (s_X2_tokenComes K this a1 a2) :=
  fun l G hl hK => zmet_of hl hK (by decide +kernel) rfl rfl (by simp [zsl_nil, zsl_rf, zsl_r, zsl_i, zsl_j, zsl_f, zsl_d]) (fun x hE => by simp only [zla_nil, zla_rf, zla_r, zla_i, zla_j, zla_f, zla_d, Nat.reduceAdd]; exact sm_X2_tokenComes hE this a1 a2)
theorem sm_X2_waiting_B15 {x : ZX Int32} {K : ZK} (hE : zE x K cX2_waiting RX2 "waiting" 4 4 164 encI (Option.some Jvm.ClassFile.FieldType.int) []) (x2 : Option Nat) (self15 : Int32 → ZP Int32) (hs15 : ∀ v : Int32, zS x 15 [(1, .int v), (2, va_rf x2)] [] (self15 v)) (x1 : Int32) : zS x 15 [(1, .int x1), (2, va_rf x2)] [] (s_X2_waiting_B15 K x2 self15 x1) := by
  unfold s_X2_waiting_B15
  refine zs_aload_n hE 1 rfl rfl dX2_waiting_15 ?_
  refine zs_callF hE (xx := ⟨"java/util/Iterator", "hasNext", "()Z"⟩) (As := []) (encA := encI) (ci := 8) rfl (fun y0 => met_J26_hasNext__J28 K y0) q875 q127 q845 (List.mem_of_getElem? (i := 1) rfl) q873 q883 hdx_h2 (by decide) (by decide) rfl (by simp [zcat_rf, zcat_i, zcat_j, zcat_f, zcat_d]) (fun z hz => by cases hz) dX2_waiting_16 (fun r4 => ?_)
  show zS _ 21 _ [.int r4] _
  refine zs_if_eq hE 47 (by decide) dX2_waiting_21 ?_ ?_
  · refine zs_iload_n hE 0 rfl rfl dX2_waiting_47 ?_
    exact zs_iret hE dX2_waiting_48
  · refine zs_aload_n hE 1 rfl rfl dX2_waiting_24 ?_
    refine zs_callF hE (xx := ⟨"java/util/Iterator", "next", "()Ljava/lang/Object;"⟩) (As := []) (encA := encR) (ci := 8) rfl (fun y0 => met_J28_next K y0) q1094 q129 q886 (List.mem_of_getElem? (i := 2) rfl) q1092 q1090 hdx_h4 (by decide) (by decide) rfl (by simp [zcat_rf, zcat_i, zcat_j, zcat_f, zcat_d]) (fun z hz => by cases hz) dX2_waiting_25 (fun r5 => ?_)
    show zS _ 30 _ [va_rf r5] _
    refine zs_cast hE q1098 (zc1 rfl (Or.inl rfl)) dX2_waiting_30 ?_
    refine zs_astore_n hE (i := 3) (q := 3) rfl (by decide) (zcat_rf x2) (lv' := [(1, .int x1), (2, va_rf x2)]) rfl dX2_waiting_33 ?_
    refine zs_iload_n hE 1 rfl rfl dX2_waiting_34 ?_
    refine zs_aload_n hE 0 rfl rfl dX2_waiting_35 ?_
    refine zs_getR hE (ci := 37) (k := 1) rfl (by decide) in_X5 (Or.inr ⟨_, zn q1554 rfl⟩) (Or.inl rfl) dX2_waiting_36 (fun v6 => ?_)
    refine zs_callV hE (As := []) (encA := encI) (ci := 11) rfl (fun y0 => met_J31_size K y0) q1102 q133 q1099 q1100 (zq q1101) hd_J31_size (by decide) (by decide) rfl (by simp [zcat_rf, zcat_i, zcat_j, zcat_f, zcat_d]) (fun z hz => by cases hz) dX2_waiting_39 (fun r7 => ?_)
    show zS _ 42 _ [.int r7, .int x1] _
    refine zs_iadd hE dX2_waiting_42 ?_
    refine zs_istore_n hE (i := 1) (q := 1) rfl (by decide) (trivial) (lv' := [(3, va_rf r5), (2, va_rf x2)]) rfl dX2_waiting_43 ?_
    refine zs_goto hE 15 (by decide) dX2_waiting_44 ?_
    refine zs_sub [0, 2] rfl ?_
    exact hs15 (x1 + r7)
theorem sm_X2_waiting_L15 {x : ZX Int32} {K : ZK} (hE : zE x K cX2_waiting RX2 "waiting" 4 4 164 encI (Option.some Jvm.ClassFile.FieldType.int) []) (x2 : Option Nat) (v : Int32) : zS x 15 [(1, .int v), (2, va_rf x2)] [] (s_X2_waiting_L15 K x2 v) := by
  unfold s_X2_waiting_L15
  exact zs_loop (lvf := fun v => [(1, .int v), (2, va_rf x2)]) (fun self15 hs15 v => sm_X2_waiting_B15 hE x2 self15 hs15 v) v
theorem sm_X2_waiting {x : ZX Int32} {K : ZK} (hE : zE x K cX2_waiting RX2 "waiting" 4 4 164 encI (Option.some Jvm.ClassFile.FieldType.int) []) (this : Nat) : zS x 0 [(0, va_rf (some this))] [] (s_X2_waiting K this) := by
  unfold s_X2_waiting
  refine zs_iconst hE (v := (0 : Int32)) (by decide) dX2_waiting_0 ?_
  refine zs_istore_n hE (i := 1) (q := 1) rfl (by decide) (zcat_rf (some this)) (lv' := [(0, va_rf (some this))]) rfl dX2_waiting_1 ?_
  refine zs_aload_n hE 1 rfl rfl dX2_waiting_2 ?_
  refine zs_getR hE (ci := 34) (k := 0) rfl (by decide) in_X2 (Or.inl q215) (Or.inl rfl) dX2_waiting_3 (fun v1 => ?_)
  refine zs_callV hE (As := []) (encA := encR) (ci := 0) rfl (fun y0 => met_J1_values K y0) q427 q98 q424 q425 (zq q426) hd_J1_values (by decide) (by decide) rfl (by simp [zcat_rf, zcat_i, zcat_j, zcat_f, zcat_d]) (fun z hz => by cases hz) dX2_waiting_6 (fun r2 => ?_)
  show zS _ 9 _ [va_rf r2] _
  refine zs_callF hE (xx := ⟨"java/util/Collection", "iterator", "()Ljava/util/Iterator;"⟩) (As := []) (encA := encR) (ci := 3) rfl (fun y0 => met_J21_iterator K y0) q831 q122 q439 (List.mem_of_getElem? (i := 0) rfl) q829 q827 hdx_h1 (by decide) (by decide) rfl (by simp [zcat_rf, zcat_i, zcat_j, zcat_f, zcat_d]) (fun z hz => by cases hz) dX2_waiting_9 (fun r3 => ?_)
  show zS _ 14 _ [va_rf r3] _
  refine zs_astore_n hE (i := 2) (q := 2) rfl (by decide) (rfl) (lv' := [(1, .int (0 : Int32)), (0, va_rf (some this))]) rfl dX2_waiting_14 ?_
  refine zs_sub [1, 0] rfl ?_
  exact sm_X2_waiting_L15 hE r3 (0 : Int32)
theorem hd_X2_waiting : (yX2_waiting).cls ≠ "java/lang/invoke/MethodHandle" ∧ (yX2_waiting).cls ≠ "java/lang/invoke/VarHandle" ∧ (parseMethodDescriptor (yX2_waiting).desc).map (fun d => d.parameters.length) = some 0 := by decide +kernel
theorem met_X2_waiting (K : ZK) (this : Nat) : zMeth K yX2_waiting (zws yX2_waiting cX2_waiting 4 (Option.some Jvm.ClassFile.FieldType.int)) 4 164 [.ref this] encI (s_X2_waiting K this) :=
  fun l G hl hK => zmet_of hl hK (by decide +kernel) rfl rfl (by simp [zsl_nil, zsl_rf, zsl_r, zsl_i, zsl_j, zsl_f, zsl_d]) (fun x hE => by simp only [zla_nil, zla_rf, zla_r, zla_i, zla_j, zla_f, zla_d, Nat.reduceAdd]; exact sm_X2_waiting hE this)
theorem sm_X1_token_J22 {x : ZX Int32} {K : ZK} (hE : zE x K cX1_token RX1 "token" 2 11 318 encI (Option.some Jvm.ClassFile.FieldType.int) []) (x0 : Nat) (x1 : Int32) (t0 : Int32) (t1 : Nat) : zS x 22 [(0, va_rf (some x0)), (1, .int x1)] [.int t0, va_rf (some t1)] (s_X1_token_J22 K x0 x1 t0 t1) := by
  unfold s_X1_token_J22
  refine zs_bipush hE (v := (6 : Int32)) (by decide) dX1_token_22 ?_
  refine zs_aload_n hE 0 rfl rfl dX1_token_24 ?_
  refine zs_getR hE (ci := 24) (k := 0) rfl (by decide) in_X1 (Or.inl q391) (Or.inl rfl) dX1_token_25 (fun v4 => ?_)
  refine zs_getI hE (ci := 34) (k := 1) rfl (by decide) in_X2 (Or.inr ⟨_, zn q221 rfl⟩) (Or.inl rfl) dX1_token_28 (fun v5 => ?_)
  refine zs_callV hE (As := [.int t0, .int (6 : Int32), .int v5]) (encA := encV) (ci := 24) rfl (fun y0 => met_X1_refuse K y0 t0 (6 : Int32) v5) q1780 q95 q1777 q1779 (zq qs11) hd_X1_refuse (by decide) (by decide) rfl (by simp [zcat_rf, zcat_i, zcat_j, zcat_f, zcat_d]) (fun z hz => by cases hz) dX1_token_31 (fun _ => ?_)
  show zS _ 34 _ [] _
  refine zs_aload_n hE 0 rfl rfl dX1_token_34 ?_
  refine zs_callV hE (As := []) (encA := encV) (ci := 24) rfl (fun y0 => met_X1_change K y0) q1832 q95 q1829 q1831 (zq qs14) hd_X1_change (by decide) (by decide) rfl (by simp [zcat_rf, zcat_i, zcat_j, zcat_f, zcat_d]) (fun z hz => by cases hz) dX1_token_35 (fun _ => ?_)
  show zS _ 38 _ [] _
  refine zs_aload_n hE 0 rfl rfl dX1_token_38 ?_
  refine zs_getR hE (ci := 24) (k := 0) rfl (by decide) in_X1 (Or.inl q391) (Or.inl rfl) dX1_token_39 (fun v6 => ?_)
  refine zs_iload_n hE 1 rfl rfl dX1_token_42 ?_
  refine zs_iconst hE (v := (0 : Int32)) (by decide) dX1_token_43 ?_
  refine zs_callV hE (As := [.int x1, .int (0 : Int32)]) (encA := encV) (ci := 34) rfl (fun y0 => met_X2_tokenComes K y0 x1 (0 : Int32)) q2045 q96 q2042 q2043 (zq q2044) hd_X2_tokenComes (by decide) (by decide) rfl (by simp [zcat_rf, zcat_i, zcat_j, zcat_f, zcat_d]) (fun z hz => by cases hz) dX1_token_44 (fun _ => ?_)
  show zS _ 47 _ [] _
  refine zs_aload_n hE 0 rfl rfl dX1_token_47 ?_
  refine zs_getR hE (ci := 24) (k := 0) rfl (by decide) in_X1 (Or.inl q391) (Or.inl rfl) dX1_token_48 (fun v7 => ?_)
  refine zs_iconst hE (v := (0 : Int32)) (by decide) dX1_token_51 ?_
  refine zs_putI hE (ci := 34) (k := 7) rfl (by decide) in_X2 (Or.inr ⟨_, zn q238 rfl⟩) (Or.inl rfl) (Or.inl rfl) (fun h => nomatch h) rfl dX1_token_52 ?_
  refine zs_aload_n hE 0 rfl rfl dX1_token_55 ?_
  refine zs_getR hE (ci := 24) (k := 0) rfl (by decide) in_X1 (Or.inl q391) (Or.inl rfl) dX1_token_56 (fun v8 => ?_)
  refine zs_callV hE (As := []) (encA := encI) (ci := 34) rfl (fun y0 => met_X2_waiting K y0) q423 q96 q420 q421 (zq q422) hd_X2_waiting (by decide) (by decide) rfl (by simp [zcat_rf, zcat_i, zcat_j, zcat_f, zcat_d]) (fun z hz => by cases hz) dX1_token_59 (fun r9 => ?_)
  show zS _ 62 _ [.int r9] _
  exact zs_iret hE dX1_token_62
theorem sm_X1_token {x : ZX Int32} {K : ZK} (hE : zE x K cX1_token RX1 "token" 2 11 318 encI (Option.some Jvm.ClassFile.FieldType.int) []) (this : Nat) (a1 : Int32) : zS x 0 [(0, va_rf (some this)), (1, .int a1)] [] (s_X1_token K this a1) := by
  unfold s_X1_token
  refine zs_aload_n hE 0 rfl rfl dX1_token_0 ?_
  refine zs_iload_n hE 1 rfl rfl dX1_token_1 ?_
  refine zs_callV hE (As := [.int a1]) (encA := encR) (ci := 24) rfl (fun y0 => met_X1_stationFor K y0 a1) q1892 q95 q1889 q1891 (zq qs17) hd_X1_stationFor (by decide) (by decide) rfl (by simp [zcat_rf, zcat_i, zcat_j, zcat_f, zcat_d]) (fun z hz => by cases hz) dX1_token_2 (fun r1 => ?_)
  show zS _ 5 _ [va_rf r1] _
  refine zs_pop hE (zcat_rf _) dX1_token_5 ?_
  refine zs_aload_n hE 0 rfl rfl dX1_token_6 ?_
  refine zs_aload_n hE 0 rfl rfl dX1_token_7 ?_
  refine zs_getR hE (ci := 24) (k := 0) rfl (by decide) in_X1 (Or.inl q391) (Or.inl rfl) dX1_token_8 (fun v2 => ?_)
  refine zs_getI hE (ci := 34) (k := 1) rfl (by decide) in_X2 (Or.inr ⟨_, zn q221 rfl⟩) (Or.inl rfl) dX1_token_11 (fun v3 => ?_)
  refine zs_if_eq hE 21 (by decide) dX1_token_14 ?_ ?_
  · refine zs_iconst hE (v := (0 : Int32)) (by decide) dX1_token_21 ?_
    exact sm_X1_token_J22 hE this a1 (0 : Int32) this
  · refine zs_iconst hE (v := (1 : Int32)) (by decide) dX1_token_17 ?_
    refine zs_goto hE 22 (by decide) dX1_token_18 ?_
    exact sm_X1_token_J22 hE this a1 (1 : Int32) this
theorem hd_X1_token : (yX1_token).cls ≠ "java/lang/invoke/MethodHandle" ∧ (yX1_token).cls ≠ "java/lang/invoke/VarHandle" ∧ (parseMethodDescriptor (yX1_token).desc).map (fun d => d.parameters.length) = some 1 := by decide +kernel
theorem met_X1_token (K : ZK) (this : Nat) (a1 : Int32) : zMeth K yX1_token (zws yX1_token cX1_token 2 (Option.some Jvm.ClassFile.FieldType.int)) 11 318 [.ref this, .int a1] encI (s_X1_token K this a1) :=
  fun l G hl hK => zmet_of hl hK (by decide +kernel) rfl rfl (by simp [zsl_nil, zsl_rf, zsl_r, zsl_i, zsl_j, zsl_f, zsl_d]) (fun x hE => by simp only [zla_nil, zla_rf, zla_r, zla_i, zla_j, zla_f, zla_d, Nat.reduceAdd]; exact sm_X1_token hE this a1)
theorem sm_X0_token {x : ZX Int32} {K : ZK} (hE : zE x K cX0_token RX0 "token" 4 12 339 encI (Option.some Jvm.ClassFile.FieldType.int) (tableOf [((0 : Nat), (9 : Nat), (12 : Nat), (13 : Nat))])) (a1 : Option Nat) (a2 : Int32) (a3 : Option Nat) : zS x 0 [(0, va_rf a1), (1, .int a2), (2, va_rf a3)] [] (s_X0_token K a1 a2 a3) := by
  unfold s_X0_token
  refine zs_aload_n hE 2 rfl rfl dX0_token_0 ?_
  refine zs_iconst hE (v := (0 : Int32)) (by decide) dX0_token_1 ?_
  refine zs_aload_n hE 0 rfl rfl dX0_token_2 ?_
  refine zs_iload_n hE 1 rfl rfl dX0_token_3 ?_
  refine zs_callVT hE (As := [.int a2]) (encA := encI) (ci := 24) rfl (fun y0 => met_X1_token K y0 a2) q2041 q95 q2038 q2039 (zq q2040) hd_X1_token (by decide) (by decide) rfl (by simp [zcat_rf, zcat_i, zcat_j, zcat_f, zcat_d]) (zhl_cons (zhnd (tableOf []) (tableOf []) ⟨0, 9, 12, 13⟩ rfl (fun w hw => by cases hw) (by decide) (by decide) q1765 (zn q1802 rfl) (fun q1 => ?_)) zhl_nil) dX0_token_4 (fun r2 => ?_)
  · have hE := zE_q q1 0 hE
    have hq := zqin_q (x := x) q1 0
    refine zs_astore_n hE (i := 3) (q := 3) rfl (by decide) (zcat_rf a3) (lv' := [(0, va_rf a1), (1, .int a2), (2, va_rf a3)]) rfl dX0_token_12 ?_
    refine zs_iconst hE (v := (1 : Int32)) (by decide) dX0_token_13 ?_
    exact zs_iret hE dX0_token_14
  · show zS _ 7 _ [.int r2, .int (0 : Int32), va_rf a3] _
    refine zs_i2l hE dX0_token_7 ?_
    refine zs_astJ hE dX0_token_8 ?_
    refine zs_goto hE 15 (by decide) dX0_token_9 ?_
    refine zs_iconst hE (v := (0 : Int32)) (by decide) dX0_token_15 ?_
    exact zs_iret hE dX0_token_16
theorem hd_X0_token : (yX0_token).cls ≠ "java/lang/invoke/MethodHandle" ∧ (yX0_token).cls ≠ "java/lang/invoke/VarHandle" ∧ (parseMethodDescriptor (yX0_token).desc).map (fun d => d.parameters.length) = some 3 := by decide +kernel
theorem met_X0_token (K : ZK) (a1 : Option Nat) (a2 : Int32) (a3 : Option Nat) : zMeth K yX0_token (zwsW yX0_token cX0_token 4 (Option.some Jvm.ClassFile.FieldType.int) [((0 : Nat), (9 : Nat), (12 : Nat), (13 : Nat))]) 12 339 [va_rf a1, .int a2, va_rf a3] encI (s_X0_token K a1 a2 a3) :=
  fun l G hl hK => zmet_ofH hl hK (by decide +kernel) rfl rfl (by simp [zsl_nil, zsl_rf, zsl_r, zsl_i, zsl_j, zsl_f, zsl_d]) (fun x hE => by simp only [zla_nil, zla_rf, zla_r, zla_i, zla_j, zla_f, zla_d, Nat.reduceAdd]; exact sm_X0_token hE a1 a2 a3)
theorem sm_X1_lose_J16 {x : ZX Int32} {K : ZK} (hE : zE x K cX1_lose RX1 "lose" 1 11 318 encI (Option.some Jvm.ClassFile.FieldType.int) []) (x0 : Nat) (t0 : Int32) (t1 : Nat) : zS x 16 [(0, va_rf (some x0))] [.int t0, va_rf (some t1)] (s_X1_lose_J16 K x0 t0 t1) := by
  unfold s_X1_lose_J16
  refine zs_bipush hE (v := (7 : Int32)) (by decide) dX1_lose_16 ?_
  refine zs_iconst hE (v := (0 : Int32)) (by decide) dX1_lose_18 ?_
  refine zs_callV hE (As := [.int t0, .int (7 : Int32), .int (0 : Int32)]) (encA := encV) (ci := 24) rfl (fun y0 => met_X1_refuse K y0 t0 (7 : Int32) (0 : Int32)) q1780 q95 q1777 q1779 (zq qs11) hd_X1_refuse (by decide) (by decide) rfl (by simp [zcat_rf, zcat_i, zcat_j, zcat_f, zcat_d]) (fun z hz => by cases hz) dX1_lose_19 (fun _ => ?_)
  show zS _ 22 _ [] _
  refine zs_aload_n hE 0 rfl rfl dX1_lose_22 ?_
  refine zs_callV hE (As := []) (encA := encV) (ci := 24) rfl (fun y0 => met_X1_change K y0) q1832 q95 q1829 q1831 (zq qs14) hd_X1_change (by decide) (by decide) rfl (by simp [zcat_rf, zcat_i, zcat_j, zcat_f, zcat_d]) (fun z hz => by cases hz) dX1_lose_23 (fun _ => ?_)
  show zS _ 26 _ [] _
  refine zs_aload_n hE 0 rfl rfl dX1_lose_26 ?_
  refine zs_getR hE (ci := 24) (k := 0) rfl (by decide) in_X1 (Or.inl q391) (Or.inl rfl) dX1_lose_27 (fun v3 => ?_)
  refine zs_callV hE (As := []) (encA := encI) (ci := 34) rfl (fun y0 => met_X2_loses K y0) q1903 q96 q2053 q1901 (zq q1902) hd_X2_loses (by decide) (by decide) rfl (by simp [zcat_rf, zcat_i, zcat_j, zcat_f, zcat_d]) (fun z hz => by cases hz) dX1_lose_30 (fun r4 => ?_)
  show zS _ 33 _ [.int r4] _
  exact zs_iret hE dX1_lose_33
theorem sm_X1_lose {x : ZX Int32} {K : ZK} (hE : zE x K cX1_lose RX1 "lose" 1 11 318 encI (Option.some Jvm.ClassFile.FieldType.int) []) (this : Nat) : zS x 0 [(0, va_rf (some this))] [] (s_X1_lose K this) := by
  unfold s_X1_lose
  refine zs_aload_n hE 0 rfl rfl dX1_lose_0 ?_
  refine zs_aload_n hE 0 rfl rfl dX1_lose_1 ?_
  refine zs_getR hE (ci := 24) (k := 0) rfl (by decide) in_X1 (Or.inl q391) (Or.inl rfl) dX1_lose_2 (fun v1 => ?_)
  refine zs_getI hE (ci := 34) (k := 1) rfl (by decide) in_X2 (Or.inr ⟨_, zn q221 rfl⟩) (Or.inl rfl) dX1_lose_5 (fun v2 => ?_)
  refine zs_if_ne hE 15 (by decide) dX1_lose_8 ?_ ?_
  · refine zs_iconst hE (v := (1 : Int32)) (by decide) dX1_lose_11 ?_
    refine zs_goto hE 16 (by decide) dX1_lose_12 ?_
    exact sm_X1_lose_J16 hE this (1 : Int32) this
  · refine zs_iconst hE (v := (0 : Int32)) (by decide) dX1_lose_15 ?_
    exact sm_X1_lose_J16 hE this (0 : Int32) this
theorem hd_X1_lose : (yX1_lose).cls ≠ "java/lang/invoke/MethodHandle" ∧ (yX1_lose).cls ≠ "java/lang/invoke/VarHandle" ∧ (parseMethodDescriptor (yX1_lose).desc).map (fun d => d.parameters.length) = some 0 := by decide +kernel
theorem met_X1_lose (K : ZK) (this : Nat) : zMeth K yX1_lose (zws yX1_lose cX1_lose 1 (Option.some Jvm.ClassFile.FieldType.int)) 11 318 [.ref this] encI (s_X1_lose K this) :=
  fun l G hl hK => zmet_of hl hK (by decide +kernel) rfl rfl (by simp [zsl_nil, zsl_rf, zsl_r, zsl_i, zsl_j, zsl_f, zsl_d]) (fun x hE => by simp only [zla_nil, zla_rf, zla_r, zla_i, zla_j, zla_f, zla_d, Nat.reduceAdd]; exact sm_X1_lose hE this)
theorem sm_X0_lose {x : ZX Int32} {K : ZK} (hE : zE x K cX0_lose RX0 "lose" 3 12 338 encI (Option.some Jvm.ClassFile.FieldType.int) (tableOf [((0 : Nat), (8 : Nat), (11 : Nat), (13 : Nat))])) (a1 : Option Nat) (a2 : Option Nat) : zS x 0 [(0, va_rf a1), (1, va_rf a2)] [] (s_X0_lose K a1 a2) := by
  unfold s_X0_lose
  refine zs_aload_n hE 1 rfl rfl dX0_lose_0 ?_
  refine zs_iconst hE (v := (0 : Int32)) (by decide) dX0_lose_1 ?_
  refine zs_aload_n hE 0 rfl rfl dX0_lose_2 ?_
  refine zs_callVT hE (As := []) (encA := encI) (ci := 24) rfl (fun y0 => met_X1_lose K y0) q2052 q95 q2049 q2050 (zq q2051) hd_X1_lose (by decide) (by decide) rfl (by simp [zcat_rf, zcat_i, zcat_j, zcat_f, zcat_d]) (zhl_cons (zhnd (tableOf []) (tableOf []) ⟨0, 8, 11, 13⟩ rfl (fun w hw => by cases hw) (by decide) (by decide) q1765 (zn q1802 rfl) (fun q1 => ?_)) zhl_nil) dX0_lose_3 (fun r2 => ?_)
  · have hE := zE_q q1 0 hE
    have hq := zqin_q (x := x) q1 0
    refine zs_astore_n hE (i := 2) (q := 2) rfl (by decide) (zcat_rf a2) (lv' := [(0, va_rf a1), (1, va_rf a2)]) rfl dX0_lose_11 ?_
    refine zs_iconst hE (v := (1 : Int32)) (by decide) dX0_lose_12 ?_
    exact zs_iret hE dX0_lose_13
  · show zS _ 6 _ [.int r2, .int (0 : Int32), va_rf a2] _
    refine zs_i2l hE dX0_lose_6 ?_
    refine zs_astJ hE dX0_lose_7 ?_
    refine zs_goto hE 14 (by decide) dX0_lose_8 ?_
    refine zs_iconst hE (v := (0 : Int32)) (by decide) dX0_lose_14 ?_
    exact zs_iret hE dX0_lose_15
theorem hd_X0_lose : (yX0_lose).cls ≠ "java/lang/invoke/MethodHandle" ∧ (yX0_lose).cls ≠ "java/lang/invoke/VarHandle" ∧ (parseMethodDescriptor (yX0_lose).desc).map (fun d => d.parameters.length) = some 2 := by decide +kernel
theorem met_X0_lose (K : ZK) (a1 : Option Nat) (a2 : Option Nat) : zMeth K yX0_lose (zwsW yX0_lose cX0_lose 3 (Option.some Jvm.ClassFile.FieldType.int) [((0 : Nat), (8 : Nat), (11 : Nat), (13 : Nat))]) 12 338 [va_rf a1, va_rf a2] encI (s_X0_lose K a1 a2) :=
  fun l G hl hK => zmet_ofH hl hK (by decide +kernel) rfl rfl (by simp [zsl_nil, zsl_rf, zsl_r, zsl_i, zsl_j, zsl_f, zsl_d]) (fun x hE => by simp only [zla_nil, zla_rf, zla_r, zla_i, zla_j, zla_f, zla_d, Nat.reduceAdd]; exact sm_X0_lose hE a1 a2)
theorem sm_X8_init {x : ZX Unit} {K : ZK} (hE : zE x K cX8_init RX8 "<init>" 2 1 100 encV none []) (this : Nat) (a1 : Option Nat) : zS x 0 [(0, va_rf (some this)), (1, va_rf a1)] [] (s_X8_init K this a1) := by
  unfold s_X8_init
  refine zs_aload_n hE 0 rfl rfl dX8_init_0 ?_
  refine zs_aload_n hE 1 rfl rfl dX8_init_1 ?_
  refine zs_putR hE (ci := 40) (k := 0) rfl (by decide) in_X8 (Or.inl q2071) (Or.inl rfl) (Or.inr ⟨rfl, rfl, rfl⟩) (fun _ => q2071) (tyX8_ok 0 (by decide)) (Or.inl ⟨_, rfl⟩) dX8_init_2 ?_
  refine zs_aload_n hE 0 rfl rfl dX8_init_5 ?_
  refine zs_objInit hE q2070 q169 q170 (by decide) (by first | decide | simp [zcat_rf, zcat_i, zcat_j, zcat_f, zcat_d]) dX8_init_6 ?_
  exact zs_vret hE dX8_init_9
theorem hd_X8_init : (yX8_init).cls ≠ "java/lang/invoke/MethodHandle" ∧ (yX8_init).cls ≠ "java/lang/invoke/VarHandle" ∧ (parseMethodDescriptor (yX8_init).desc).map (fun d => d.parameters.length) = some 1 := by decide +kernel
theorem met_X8_init (K : ZK) (this : Nat) (a1 : Option Nat) : zMeth K yX8_init (zws yX8_init cX8_init 2 none) 1 100 [.ref this, va_rf a1] encV (s_X8_init K this a1) :=
  fun l G hl hK => zmet_of hl hK (by decide +kernel) rfl rfl (by simp [zsl_nil, zsl_rf, zsl_r, zsl_i, zsl_j, zsl_f, zsl_d]) (fun x hE => by simp only [zla_nil, zla_rf, zla_r, zla_i, zla_j, zla_f, zla_d, Nat.reduceAdd]; exact sm_X8_init hE this a1)
theorem sm_J0_isEmpty__J1 {x : ZX Int32} {K : ZK} (hE : zE x K cJ0_isEmpty RJ0 "isEmpty" 1 2 120 encI (Option.some Jvm.ClassFile.FieldType.boolean) []) (this : Nat) : zS x 0 [(0, va_rf (some this))] [] (s_J0_isEmpty__J1 K this) := by
  unfold s_J0_isEmpty__J1
  refine zs_aload_n hE 0 rfl rfl dJ0_isEmpty_0 ?_
  refine zs_callU hE (xx := ⟨"java/util/AbstractMap", "size", "()I"⟩) (owner := "java/util/AbstractMap") (As := []) (encA := encI) (ci := 0) rfl (fun y0 => met_J1_size K y0) q857 q98 q1433 q1435 (Or.inl (zn q1498 rfl)) (by decide) q855 q1436 ⟨(hd_J1_size).1, (hd_J1_size).2.1, (hdx_h5).2.2⟩ (by decide) (by decide) rfl (by simp [zcat_rf, zcat_i, zcat_j, zcat_f, zcat_d]) (fun z hz => by cases hz) dJ0_isEmpty_1 (fun r1 => ?_)
  show zS _ 4 _ [.int r1] _
  refine zs_if_ne hE 11 (by decide) dJ0_isEmpty_4 ?_ ?_
  · refine zs_iconst hE (v := (1 : Int32)) (by decide) dJ0_isEmpty_7 ?_
    refine zs_goto hE 12 (by decide) dJ0_isEmpty_8 ?_
    exact zs_zret hE rfl dJ0_isEmpty_12
  · refine zs_iconst hE (v := (0 : Int32)) (by decide) dJ0_isEmpty_11 ?_
    exact zs_zret hE rfl dJ0_isEmpty_12
theorem hd_J0_isEmpty__J1 : (yJ0_isEmpty).cls ≠ "java/lang/invoke/MethodHandle" ∧ (yJ0_isEmpty).cls ≠ "java/lang/invoke/VarHandle" ∧ (parseMethodDescriptor (yJ0_isEmpty).desc).map (fun d => d.parameters.length) = some 0 := by decide +kernel
theorem met_J0_isEmpty__J1 (K : ZK) (this : Nat) : zMeth K yJ0_isEmpty (zws yJ0_isEmpty cJ0_isEmpty 1 (Option.some Jvm.ClassFile.FieldType.boolean)) 2 120 [.ref this] encI (s_J0_isEmpty__J1 K this) :=
  fun l G hl hK => zmet_of hl hK (by decide +kernel) rfl rfl (by simp [zsl_nil, zsl_rf, zsl_r, zsl_i, zsl_j, zsl_f, zsl_d]) (fun x hE => by simp only [zla_nil, zla_rf, zla_r, zla_i, zla_j, zla_f, zla_d, Nat.reduceAdd]; exact sm_J0_isEmpty__J1 hE this)
theorem sm_J1_getLastEntry_B9 {x : ZX (Option Nat)} {K : ZK} (hE : zE x K cJ1_getLastEntry RJ1 "getLastEntry" 2 1 100 encR (Option.some (Jvm.ClassFile.FieldType.object "java/util/TreeMap$Entry")) []) (self9 : (Option Nat) → ZP (Option Nat)) (hs9 : ∀ v : Option Nat, zS x 9 [(1, va_rf v)] [] (self9 v)) (x1 : Option Nat) : zS x 9 [(1, va_rf x1)] [] (s_J1_getLastEntry_B9 K self9 x1) := by
  unfold s_J1_getLastEntry_B9
  refine zs_aload_n hE 0 rfl rfl dJ1_getLastEntry_9 ?_
  refine zs_getR hE (ci := 12) (k := 3) rfl (by decide) in_J33 (Or.inl q1677) (Or.inl rfl) dJ1_getLastEntry_10 (fun v2 => ?_)
  refine zs_ifnull hE 24 (by decide) dJ1_getLastEntry_13 ?_ ?_
  · refine zs_aload_n hE 0 rfl rfl dJ1_getLastEntry_24 ?_
    exact zs_aret hE (Or.inl ⟨_, rfl⟩) dJ1_getLastEntry_25
  · refine zs_aload_n hE 0 rfl rfl dJ1_getLastEntry_16 ?_
    refine zs_getR hE (ci := 12) (k := 3) rfl (by decide) in_J33 (Or.inl q1677) (Or.inl rfl) dJ1_getLastEntry_17 (fun v3 => ?_)
    refine zs_astore_n hE (i := 1) (q := 1) rfl (by decide) (trivial) (lv' := []) rfl dJ1_getLastEntry_20 ?_
    refine zs_goto hE 9 (by decide) dJ1_getLastEntry_21 ?_
    exact hs9 v3
theorem sm_J1_getLastEntry_L9 {x : ZX (Option Nat)} {K : ZK} (hE : zE x K cJ1_getLastEntry RJ1 "getLastEntry" 2 1 100 encR (Option.some (Jvm.ClassFile.FieldType.object "java/util/TreeMap$Entry")) []) (v : Option Nat) : zS x 9 [(1, va_rf v)] [] (s_J1_getLastEntry_L9 K v) := by
  unfold s_J1_getLastEntry_L9
  exact zs_loop (lvf := fun v => [(1, va_rf v)]) (fun self9 hs9 v => sm_J1_getLastEntry_B9 hE self9 hs9 v) v
theorem sm_J1_getLastEntry {x : ZX (Option Nat)} {K : ZK} (hE : zE x K cJ1_getLastEntry RJ1 "getLastEntry" 2 1 100 encR (Option.some (Jvm.ClassFile.FieldType.object "java/util/TreeMap$Entry")) []) (this : Nat) : zS x 0 [(0, va_rf (some this))] [] (s_J1_getLastEntry K this) := by
  unfold s_J1_getLastEntry
  refine zs_aload_n hE 0 rfl rfl dJ1_getLastEntry_0 ?_
  refine zs_getR hE (ci := 0) (k := 3) rfl (by decide) in_J1 (Or.inl q187) (Or.inl rfl) dJ1_getLastEntry_1 (fun v1 => ?_)
  refine zs_astore_n hE (i := 1) (q := 1) rfl (by decide) (zcat_rf (some this)) (lv' := [(0, va_rf (some this))]) rfl dJ1_getLastEntry_4 ?_
  refine zs_aload_n hE 0 rfl rfl dJ1_getLastEntry_5 ?_
  refine zs_ifnull hE 24 (by decide) dJ1_getLastEntry_6 ?_ ?_
  · refine zs_aload_n hE 0 rfl rfl dJ1_getLastEntry_24 ?_
    exact zs_aret hE (Or.inl ⟨_, rfl⟩) dJ1_getLastEntry_25
  · refine zs_sub [0] rfl ?_
    exact sm_J1_getLastEntry_L9 hE v1
theorem hd_J1_getLastEntry : (yJ1_getLastEntry).cls ≠ "java/lang/invoke/MethodHandle" ∧ (yJ1_getLastEntry).cls ≠ "java/lang/invoke/VarHandle" ∧ (parseMethodDescriptor (yJ1_getLastEntry).desc).map (fun d => d.parameters.length) = some 0 := by decide +kernel
theorem met_J1_getLastEntry (K : ZK) (this : Nat) : zMeth K yJ1_getLastEntry (zws yJ1_getLastEntry cJ1_getLastEntry 2 (Option.some (Jvm.ClassFile.FieldType.object "java/util/TreeMap$Entry"))) 1 100 [.ref this] encR (s_J1_getLastEntry K this) :=
  fun l G hl hK => zmet_of hl hK (by decide +kernel) rfl rfl (by simp [zsl_nil, zsl_rf, zsl_r, zsl_i, zsl_j, zsl_f, zsl_d]) (fun x hE => by simp only [zla_nil, zla_rf, zla_r, zla_i, zla_j, zla_f, zla_d, Nat.reduceAdd]; exact sm_J1_getLastEntry hE this)
theorem sm_J1_lastKey {x : ZX (Option Nat)} {K : ZK} (hE : zE x K cJ1_lastKey RJ1 "lastKey" 1 2 121 encR (Option.some (Jvm.ClassFile.FieldType.object "java/lang/Object")) []) (this : Nat) : zS x 0 [(0, va_rf (some this))] [] (s_J1_lastKey K this) := by
  unfold s_J1_lastKey
  refine zs_aload_n hE 0 rfl rfl dJ1_lastKey_0 ?_
  refine zs_callV hE (As := []) (encA := encR) (ci := 0) rfl (fun y0 => met_J1_getLastEntry K y0) q2092 q98 q2089 q2090 (zq q2091) hd_J1_getLastEntry (by decide) (by decide) rfl (by simp [zcat_rf, zcat_i, zcat_j, zcat_f, zcat_d]) (fun z hz => by cases hz) dJ1_lastKey_1 (fun r1 => ?_)
  show zS _ 4 _ [va_rf r1] _
  refine zs_callS hE (As := [va_rf r1]) (encA := encR) (met_J1_key K r1) q937 q98 q935 q936 hd_J1_key (by decide) (by decide) rfl (by simp [zcat_rf, zcat_i, zcat_j, zcat_f, zcat_d]) (fun z hz => by cases hz) dJ1_lastKey_4 (fun r2 => ?_)
  show zS _ 7 _ [va_rf r2] _
  exact zs_aret hE (Or.inl ⟨_, rfl⟩) dJ1_lastKey_7
theorem hd_J1_lastKey : (yJ1_lastKey).cls ≠ "java/lang/invoke/MethodHandle" ∧ (yJ1_lastKey).cls ≠ "java/lang/invoke/VarHandle" ∧ (parseMethodDescriptor (yJ1_lastKey).desc).map (fun d => d.parameters.length) = some 0 := by decide +kernel
theorem met_J1_lastKey (K : ZK) (this : Nat) : zMeth K yJ1_lastKey (zws yJ1_lastKey cJ1_lastKey 1 (Option.some (Jvm.ClassFile.FieldType.object "java/lang/Object"))) 2 121 [.ref this] encR (s_J1_lastKey K this) :=
  fun l G hl hK => zmet_of hl hK (by decide +kernel) rfl rfl (by simp [zsl_nil, zsl_rf, zsl_r, zsl_i, zsl_j, zsl_f, zsl_d]) (fun x hE => by simp only [zla_nil, zla_rf, zla_r, zla_i, zla_j, zla_f, zla_d, Nat.reduceAdd]; exact sm_J1_lastKey hE this)
theorem sm_X8_isSilent_J74 {x : ZX Unit} {K : ZK} (hE : zE x K cX8_isSilent RX8 "isSilent" 1 3 141 encV none []) (x0 : Nat) : zS x 74 [(0, va_rf (some x0))] [] (s_X8_isSilent_J74 K x0) := by
  unfold s_X8_isSilent_J74
  refine zs_aload_n hE 0 rfl rfl dX8_isSilent_74 ?_
  refine zs_getR hE (ci := 40) (k := 0) rfl (by decide) in_X8 (Or.inl q2071) (Or.inl rfl) dX8_isSilent_75 (fun v5 => ?_)
  refine zs_getI hE (ci := 34) (k := 7) rfl (by decide) in_X2 (Or.inr ⟨_, zn q236 rfl⟩) (Or.inl rfl) dX8_isSilent_78 (fun v6 => ?_)
  refine zs_bipush hE (v := (8 : Int32)) (by decide) dX8_isSilent_81 ?_
  refine zs_icmp_lt hE 154 (by decide) dX8_isSilent_83 ?_ ?_
  · exact zs_vret hE dX8_isSilent_154
  · refine zs_aload_n hE 0 rfl rfl dX8_isSilent_86 ?_
    refine zs_getR hE (ci := 40) (k := 0) rfl (by decide) in_X8 (Or.inl q2071) (Or.inl rfl) dX8_isSilent_87 (fun v7 => ?_)
    refine zs_getR hE (ci := 34) (k := 0) rfl (by decide) in_X2 (Or.inr ⟨_, zn q217 rfl⟩) (Or.inl rfl) dX8_isSilent_90 (fun v8 => ?_)
    refine zs_callU hE (xx := ⟨"java/util/TreeMap", "isEmpty", "()Z"⟩) (owner := "java/util/AbstractMap") (As := []) (encA := encI) (ci := 0) rfl (fun y0 => met_J0_isEmpty__J1 K y0) q1432 q97 q2084 q1428 (Or.inl (zn q1429 rfl)) (by decide) q1431 q1430 ⟨(hd_J0_isEmpty__J1).1, (hd_J0_isEmpty__J1).2.1, (hdx_h6).2.2⟩ (by decide) (by decide) rfl (by simp [zcat_rf, zcat_i, zcat_j, zcat_f, zcat_d]) (fun z hz => by cases hz) dX8_isSilent_93 (fun r9 => ?_)
    show zS _ 96 _ [.int r9] _
    refine zs_if_ne hE 154 (by decide) dX8_isSilent_96 ?_ ?_
    · refine zs_aload_n hE 0 rfl rfl dX8_isSilent_99 ?_
      refine zs_getR hE (ci := 40) (k := 0) rfl (by decide) in_X8 (Or.inl q2071) (Or.inl rfl) dX8_isSilent_100 (fun v10 => ?_)
      refine zs_getI hE (ci := 34) (k := 6) rfl (by decide) in_X2 (Or.inr ⟨_, zn q234 rfl⟩) (Or.inl rfl) dX8_isSilent_103 (fun v11 => ?_)
      refine zs_iconst hE (v := (-1 : Int32)) (by decide) dX8_isSilent_106 ?_
      refine zs_icmp_ne hE 154 (by decide) dX8_isSilent_107 ?_ ?_
      · refine zs_aload_n hE 0 rfl rfl dX8_isSilent_110 ?_
        refine zs_getR hE (ci := 40) (k := 0) rfl (by decide) in_X8 (Or.inl q2071) (Or.inl rfl) dX8_isSilent_111 (fun v12 => ?_)
        refine zs_aload_n hE 0 rfl rfl dX8_isSilent_114 ?_
        refine zs_getR hE (ci := 40) (k := 0) rfl (by decide) in_X8 (Or.inl q2071) (Or.inl rfl) dX8_isSilent_115 (fun v13 => ?_)
        refine zs_getR hE (ci := 34) (k := 0) rfl (by decide) in_X2 (Or.inr ⟨_, zn q217 rfl⟩) (Or.inl rfl) dX8_isSilent_118 (fun v14 => ?_)
        refine zs_callV hE (As := []) (encA := encR) (ci := 0) rfl (fun y0 => met_J1_lastKey K y0) q2088 q98 q2085 q2086 (zq q2087) hd_J1_lastKey (by decide) (by decide) rfl (by simp [zcat_rf, zcat_i, zcat_j, zcat_f, zcat_d]) (fun z hz => by cases hz) dX8_isSilent_121 (fun r15 => ?_)
        show zS _ 124 _ [va_rf r15, va_rf v12] _
        refine zs_castK hE q2093 (zc1 rfl (Or.inl rfl)) dX8_isSilent_124 ?_
        refine zs_callVK hE (As := []) (encA := encI) (ci := 2) rfl (fun y0 => met_J13_intValue K y0) q1010 q112 q2094 q1008 (zq q1009) hd_J13_intValue (by decide) (by decide) rfl (by simp [zcat_rf, zcat_i, zcat_j, zcat_f, zcat_d]) (fun z hz => by cases hz) dX8_isSilent_127 (fun r16 => ?_)
        show zS _ 130 _ [.int r16, va_rf v12] _
        refine zs_putI hE (ci := 34) (k := 6) rfl (by decide) in_X2 (Or.inr ⟨_, zn q234 rfl⟩) (Or.inl rfl) (Or.inl rfl) (fun h => nomatch h) rfl dX8_isSilent_130 ?_
        refine zs_aload_n hE 0 rfl rfl dX8_isSilent_133 ?_
        refine zs_getR hE (ci := 40) (k := 0) rfl (by decide) in_X8 (Or.inl q2071) (Or.inl rfl) dX8_isSilent_134 (fun v17 => ?_)
        refine zs_iconst hE (v := (0 : Int32)) (by decide) dX8_isSilent_137 ?_
        refine zs_putI hE (ci := 34) (k := 7) rfl (by decide) in_X2 (Or.inr ⟨_, zn q236 rfl⟩) (Or.inl rfl) (Or.inl rfl) (fun h => nomatch h) rfl dX8_isSilent_138 ?_
        refine zs_aload_n hE 0 rfl rfl dX8_isSilent_141 ?_
        refine zs_getR hE (ci := 40) (k := 0) rfl (by decide) in_X8 (Or.inl q2071) (Or.inl rfl) dX8_isSilent_142 (fun v18 => ?_)
        refine zs_dup hE (zcat_rf _) dX8_isSilent_145 ?_
        refine zs_getI hE (ci := 34) (k := 21) rfl (by decide) in_X2 (Or.inr ⟨_, zn q274 rfl⟩) (Or.inl rfl) dX8_isSilent_146 (fun v19 => ?_)
        refine zs_iconst hE (v := (1 : Int32)) (by decide) dX8_isSilent_149 ?_
        refine zs_iadd hE dX8_isSilent_150 ?_
        refine zs_putI hE (ci := 34) (k := 21) rfl (by decide) in_X2 (Or.inr ⟨_, zn q274 rfl⟩) (Or.inl rfl) (Or.inl rfl) (fun h => nomatch h) rfl dX8_isSilent_151 ?_
        exact zs_vret hE dX8_isSilent_154
      · exact zs_vret hE dX8_isSilent_154
    · exact zs_vret hE dX8_isSilent_154
theorem sm_X8_isSilent {x : ZX Unit} {K : ZK} (hE : zE x K cX8_isSilent RX8 "isSilent" 1 3 141 encV none []) (this : Nat) : zS x 0 [(0, va_rf (some this))] [] (s_X8_isSilent K this) := by
  unfold s_X8_isSilent
  refine zs_aload_n hE 0 rfl rfl dX8_isSilent_0 ?_
  refine zs_getR hE (ci := 40) (k := 0) rfl (by decide) in_X8 (Or.inl q2071) (Or.inl rfl) dX8_isSilent_1 (fun v1 => ?_)
  refine zs_dup hE (zcat_rf _) dX8_isSilent_4 ?_
  refine zs_getI hE (ci := 34) (k := 7) rfl (by decide) in_X2 (Or.inr ⟨_, zn q236 rfl⟩) (Or.inl rfl) dX8_isSilent_5 (fun v2 => ?_)
  refine zs_iconst hE (v := (1 : Int32)) (by decide) dX8_isSilent_8 ?_
  refine zs_iadd hE dX8_isSilent_9 ?_
  refine zs_putI hE (ci := 34) (k := 7) rfl (by decide) in_X2 (Or.inr ⟨_, zn q236 rfl⟩) (Or.inl rfl) (Or.inl rfl) (fun h => nomatch h) rfl dX8_isSilent_10 ?_
  refine zs_aload_n hE 0 rfl rfl dX8_isSilent_13 ?_
  refine zs_getR hE (ci := 40) (k := 0) rfl (by decide) in_X8 (Or.inl q2071) (Or.inl rfl) dX8_isSilent_14 (fun v3 => ?_)
  refine zs_getI hE (ci := 34) (k := 7) rfl (by decide) in_X2 (Or.inr ⟨_, zn q236 rfl⟩) (Or.inl rfl) dX8_isSilent_17 (fun v4 => ?_)
  refine zs_iconst hE (v := (5 : Int32)) (by decide) dX8_isSilent_20 ?_
  refine zs_icmp_lt hE 74 (by decide) dX8_isSilent_21 ?_ ?_
  · exact sm_X8_isSilent_J74 hE this
  · refine zs_aload_n hE 0 rfl rfl dX8_isSilent_24 ?_
    refine zs_getR hE (ci := 40) (k := 0) rfl (by decide) in_X8 (Or.inl q2071) (Or.inl rfl) dX8_isSilent_25 (fun v20 => ?_)
    refine zs_getI hE (ci := 34) (k := 6) rfl (by decide) in_X2 (Or.inr ⟨_, zn q234 rfl⟩) (Or.inl rfl) dX8_isSilent_28 (fun v21 => ?_)
    refine zs_iconst hE (v := (-1 : Int32)) (by decide) dX8_isSilent_31 ?_
    refine zs_icmp_eq hE 74 (by decide) dX8_isSilent_32 ?_ ?_
    · exact sm_X8_isSilent_J74 hE this
    · refine zs_aload_n hE 0 rfl rfl dX8_isSilent_35 ?_
      refine zs_getR hE (ci := 40) (k := 0) rfl (by decide) in_X8 (Or.inl q2071) (Or.inl rfl) dX8_isSilent_36 (fun v22 => ?_)
      refine zs_aload_n hE 0 rfl rfl dX8_isSilent_39 ?_
      refine zs_getR hE (ci := 40) (k := 0) rfl (by decide) in_X8 (Or.inl q2071) (Or.inl rfl) dX8_isSilent_40 (fun v23 => ?_)
      refine zs_getI hE (ci := 34) (k := 6) rfl (by decide) in_X2 (Or.inr ⟨_, zn q234 rfl⟩) (Or.inl rfl) dX8_isSilent_43 (fun v24 => ?_)
      refine zs_iconst hE (v := (0 : Int32)) (by decide) dX8_isSilent_46 ?_
      refine zs_callV hE (As := [.int v24, .int (0 : Int32)]) (encA := encV) (ci := 34) rfl (fun y0 => met_X2_tokenComes K y0 v24 (0 : Int32)) q2045 q96 q2083 q2043 (zq q2044) hd_X2_tokenComes (by decide) (by decide) rfl (by simp [zcat_rf, zcat_i, zcat_j, zcat_f, zcat_d]) (fun z hz => by cases hz) dX8_isSilent_47 (fun _ => ?_)
      show zS _ 50 _ [] _
      refine zs_aload_n hE 0 rfl rfl dX8_isSilent_50 ?_
      refine zs_getR hE (ci := 40) (k := 0) rfl (by decide) in_X8 (Or.inl q2071) (Or.inl rfl) dX8_isSilent_51 (fun v25 => ?_)
      refine zs_iconst hE (v := (0 : Int32)) (by decide) dX8_isSilent_54 ?_
      refine zs_putI hE (ci := 34) (k := 7) rfl (by decide) in_X2 (Or.inr ⟨_, zn q236 rfl⟩) (Or.inl rfl) (Or.inl rfl) (fun h => nomatch h) rfl dX8_isSilent_55 ?_
      refine zs_aload_n hE 0 rfl rfl dX8_isSilent_58 ?_
      refine zs_getR hE (ci := 40) (k := 0) rfl (by decide) in_X8 (Or.inl q2071) (Or.inl rfl) dX8_isSilent_59 (fun v26 => ?_)
      refine zs_dup hE (zcat_rf _) dX8_isSilent_62 ?_
      refine zs_getI hE (ci := 34) (k := 20) rfl (by decide) in_X2 (Or.inr ⟨_, zn q271 rfl⟩) (Or.inl rfl) dX8_isSilent_63 (fun v27 => ?_)
      refine zs_iconst hE (v := (1 : Int32)) (by decide) dX8_isSilent_66 ?_
      refine zs_iadd hE dX8_isSilent_67 ?_
      refine zs_putI hE (ci := 34) (k := 20) rfl (by decide) in_X2 (Or.inr ⟨_, zn q271 rfl⟩) (Or.inl rfl) (Or.inl rfl) (fun h => nomatch h) rfl dX8_isSilent_68 ?_
      refine zs_goto hE 154 (by decide) dX8_isSilent_71 ?_
      exact zs_vret hE dX8_isSilent_154
theorem hd_X8_isSilent : (yX8_isSilent).cls ≠ "java/lang/invoke/MethodHandle" ∧ (yX8_isSilent).cls ≠ "java/lang/invoke/VarHandle" ∧ (parseMethodDescriptor (yX8_isSilent).desc).map (fun d => d.parameters.length) = some 0 := by decide +kernel
theorem met_X8_isSilent (K : ZK) (this : Nat) : zMeth K yX8_isSilent (zws yX8_isSilent cX8_isSilent 1 none) 3 141 [.ref this] encV (s_X8_isSilent K this) :=
  fun l G hl hK => zmet_of hl hK (by decide +kernel) rfl rfl (by simp [zsl_nil, zsl_rf, zsl_r, zsl_i, zsl_j, zsl_f, zsl_d]) (fun x hE => by simp only [zla_nil, zla_rf, zla_r, zla_i, zla_j, zla_f, zla_d, Nat.reduceAdd]; exact sm_X8_isSilent hE this)
theorem sm_X5_rank {x : ZX Int32} {K : ZK} (hE : zE x K cX5_rank RX5 "rank" 1 4 164 encI (Option.some Jvm.ClassFile.FieldType.int) []) (this : Nat) : zS x 0 [(0, va_rf (some this))] [] (s_X5_rank K this) := by
  unfold s_X5_rank
  refine zs_aload_n hE 0 rfl rfl dX5_rank_0 ?_
  refine zs_getR hE (ci := 37) (k := 1) rfl (by decide) in_X5 (Or.inl q1551) (Or.inl rfl) dX5_rank_1 (fun v1 => ?_)
  refine zs_callV hE (As := []) (encA := encI) (ci := 11) rfl (fun y0 => met_J31_isEmpty K y0) q2019 q133 q2107 q2017 (zq q2018) hd_J31_isEmpty (by decide) (by decide) rfl (by simp [zcat_rf, zcat_i, zcat_j, zcat_f, zcat_d]) (fun z hz => by cases hz) dX5_rank_4 (fun r2 => ?_)
  show zS _ 7 _ [.int r2] _
  refine zs_if_eq hE 14 (by decide) dX5_rank_7 ?_ ?_
  · refine zs_aload_n hE 0 rfl rfl dX5_rank_14 ?_
    refine zs_getR hE (ci := 37) (k := 1) rfl (by decide) in_X5 (Or.inl q1551) (Or.inl rfl) dX5_rank_15 (fun v3 => ?_)
    refine zs_iconst hE (v := (0 : Int32)) (by decide) dX5_rank_18 ?_
    refine zs_callV hE (As := [.int (0 : Int32)]) (encA := encR) (ci := 11) rfl (fun y0 => met_J31_get K y0 (0 : Int32)) q1968 q133 q1965 q1966 (zq q1967) hd_J31_get (by decide) (by decide) rfl (by simp [zcat_rf, zcat_i, zcat_j, zcat_f, zcat_d]) (fun z hz => by cases hz) dX5_rank_19 (fun r4 => ?_)
    show zS _ 22 _ [va_rf r4] _
    refine zs_cast hE q1576 (zc1 rfl (Or.inl rfl)) dX5_rank_22 ?_
    refine zs_getI hE (ci := 39) (k := 3) rfl (by decide) in_X7 (Or.inr ⟨_, zn q1940 rfl⟩) (Or.inl rfl) dX5_rank_25 (fun v5 => ?_)
    exact zs_iret hE dX5_rank_28
  · refine zs_iconst hE (v := (-1 : Int32)) (by decide) dX5_rank_10 ?_
    refine zs_goto hE 28 (by decide) dX5_rank_11 ?_
    exact zs_iret hE dX5_rank_28
theorem hd_X5_rank : (yX5_rank).cls ≠ "java/lang/invoke/MethodHandle" ∧ (yX5_rank).cls ≠ "java/lang/invoke/VarHandle" ∧ (parseMethodDescriptor (yX5_rank).desc).map (fun d => d.parameters.length) = some 0 := by decide +kernel
theorem met_X5_rank (K : ZK) (this : Nat) : zMeth K yX5_rank (zws yX5_rank cX5_rank 1 (Option.some Jvm.ClassFile.FieldType.int)) 4 164 [.ref this] encI (s_X5_rank K this) :=
  fun l G hl hK => zmet_of hl hK (by decide +kernel) rfl rfl (by simp [zsl_nil, zsl_rf, zsl_r, zsl_i, zsl_j, zsl_f, zsl_d]) (fun x hE => by simp only [zla_nil, zla_rf, zla_r, zla_i, zla_j, zla_f, zla_d, Nat.reduceAdd]; exact sm_X5_rank hE this)
theorem sm_X8_takes {x : ZX Unit} {K : ZK} (hE : zE x K cX8_takes RX8 "takes" 4 4 166 encV none []) (this : Nat) (a1 : Option Nat) : zS x 0 [(0, va_rf (some this)), (1, va_rf a1)] [] (s_X8_takes K this a1) := by
  unfold s_X8_takes
  refine zs_aload_n hE 1 rfl rfl dX8_takes_0 ?_
  refine zs_getR hE (ci := 37) (k := 1) rfl (by decide) in_X5 (Or.inr ⟨_, zn q1553 rfl⟩) (Or.inl rfl) dX8_takes_1 (fun v1 => ?_)
  refine zs_iconst hE (v := (0 : Int32)) (by decide) dX8_takes_4 ?_
  refine zs_callV hE (As := [.int (0 : Int32)]) (encA := encR) (ci := 11) rfl (fun y0 => met_J31_remove K y0 (0 : Int32)) q2023 q133 q2112 q2021 (zq q2022) hd_J31_remove (by decide) (by decide) rfl (by simp [zcat_rf, zcat_i, zcat_j, zcat_f, zcat_d]) (fun z hz => by cases hz) dX8_takes_5 (fun r2 => ?_)
  show zS _ 8 _ [va_rf r2] _
  refine zs_cast hE q2113 (zc1 rfl (Or.inl rfl)) dX8_takes_8 ?_
  refine zs_astore_n hE (i := 2) (q := 2) rfl (by decide) (zcat_rf a1) (lv' := [(0, va_rf (some this)), (1, va_rf a1)]) rfl dX8_takes_11 ?_
  refine zs_aload_n hE 1 rfl rfl dX8_takes_12 ?_
  refine zs_getR hE (ci := 40) (k := 0) rfl (by decide) in_X8 (Or.inl q2071) (Or.inl rfl) dX8_takes_13 (fun v3 => ?_)
  refine zs_new hE (ci := 38) (fs := [.null, .int 0, .int 0, .int 0, .int 0]) rfl in_X6 tyX6 tyX6_ok q2114 q1731 q137 (fun j hj => by rcases (show j = 0 ∨ j = 1 ∨ j = 2 ∨ j = 3 ∨ j = 4 by omega) with rfl | rfl | rfl | rfl | rfl <;> rfl) dX8_takes_16 (fun q4 => ?_)
  refine zs_dup hE (zcat_rf _) dX8_takes_19 ?_
  refine zs_aload_n hE 0 rfl rfl dX8_takes_20 ?_
  refine zs_aload_n hE 1 rfl rfl dX8_takes_21 ?_
  refine zs_getR hE (ci := 40) (k := 0) rfl (by decide) in_X8 (Or.inl q2071) (Or.inl rfl) dX8_takes_22 (fun v5 => ?_)
  refine zs_getI hE (ci := 34) (k := 3) rfl (by decide) in_X2 (Or.inr ⟨_, zn q226 rfl⟩) (Or.inl rfl) dX8_takes_25 (fun v6 => ?_)
  refine zs_callI hE (As := [va_rf r2, .int v6]) (encA := encV) (met_X6_init K q4 r2 v6) q1734 q137 q2115 q1733 rfl hd_X6_init (by decide) (by decide) rfl (by simp [zcat_rf, zcat_i, zcat_j, zcat_f, zcat_d]) (fun z hz => by cases hz) dX8_takes_28 (fun _ => ?_)
  show zS _ 31 _ [va_rf (some q4), va_rf v3] _
  refine zs_putR hE (ci := 34) (k := 5) rfl (by decide) in_X2 (Or.inr ⟨_, zn q231 rfl⟩) (Or.inl rfl) (Or.inl rfl) (fun h => nomatch h) (tyX2_ok 5 (by decide)) (Or.inl ⟨_, rfl⟩) dX8_takes_31 ?_
  refine zs_aload_n hE 1 rfl rfl dX8_takes_34 ?_
  refine zs_getR hE (ci := 40) (k := 0) rfl (by decide) in_X8 (Or.inl q2071) (Or.inl rfl) dX8_takes_35 (fun v7 => ?_)
  refine zs_iconst hE (v := (2 : Int32)) (by decide) dX8_takes_38 ?_
  refine zs_putI hE (ci := 34) (k := 1) rfl (by decide) in_X2 (Or.inr ⟨_, zn q220 rfl⟩) (Or.inl rfl) (Or.inl rfl) (fun h => nomatch h) rfl dX8_takes_39 ?_
  refine zs_aload_n hE 2 rfl rfl dX8_takes_42 ?_
  refine zs_dup hE (zcat_rf _) dX8_takes_43 ?_
  refine zs_getI hE (ci := 37) (k := 2) rfl (by decide) in_X5 (Or.inr ⟨_, zn q1557 rfl⟩) (Or.inl rfl) dX8_takes_44 (fun v8 => ?_)
  refine zs_iconst hE (v := (1 : Int32)) (by decide) dX8_takes_47 ?_
  refine zs_iadd hE dX8_takes_48 ?_
  refine zs_putI hE (ci := 37) (k := 2) rfl (by decide) in_X5 (Or.inr ⟨_, zn q1557 rfl⟩) (Or.inl rfl) (Or.inl rfl) (fun h => nomatch h) rfl dX8_takes_49 ?_
  refine zs_aload_n hE 1 rfl rfl dX8_takes_52 ?_
  refine zs_getR hE (ci := 40) (k := 0) rfl (by decide) in_X8 (Or.inl q2071) (Or.inl rfl) dX8_takes_53 (fun v9 => ?_)
  refine zs_dup hE (zcat_rf _) dX8_takes_56 ?_
  refine zs_getI hE (ci := 34) (k := 10) rfl (by decide) in_X2 (Or.inr ⟨_, zn q245 rfl⟩) (Or.inl rfl) dX8_takes_57 (fun v10 => ?_)
  refine zs_iconst hE (v := (1 : Int32)) (by decide) dX8_takes_60 ?_
  refine zs_iadd hE dX8_takes_61 ?_
  refine zs_putI hE (ci := 34) (k := 10) rfl (by decide) in_X2 (Or.inr ⟨_, zn q245 rfl⟩) (Or.inl rfl) (Or.inl rfl) (fun h => nomatch h) rfl dX8_takes_62 ?_
  refine zs_aload_n hE 1 rfl rfl dX8_takes_65 ?_
  refine zs_getR hE (ci := 40) (k := 0) rfl (by decide) in_X8 (Or.inl q2071) (Or.inl rfl) dX8_takes_66 (fun v11 => ?_)
  refine zs_getI hE (ci := 34) (k := 8) rfl (by decide) in_X2 (Or.inr ⟨_, zn q240 rfl⟩) (Or.inl rfl) dX8_takes_69 (fun v12 => ?_)
  refine zs_aload_n hE 0 rfl rfl dX8_takes_72 ?_
  refine zs_getI hE (ci := 39) (k := 5) rfl (by decide) in_X7 (Or.inr ⟨_, zn q1946 rfl⟩) (Or.inl rfl) dX8_takes_73 (fun v13 => ?_)
  refine zs_isub hE dX8_takes_76 ?_
  refine zs_istore_n hE (i := 3) (q := 3) rfl (by decide) (zcat_rf r2) (lv' := [(2, va_rf r2), (0, va_rf (some this)), (1, va_rf a1)]) rfl dX8_takes_77 ?_
  refine zs_aload_n hE 2 rfl rfl dX8_takes_78 ?_
  refine zs_getR hE (ci := 40) (k := 0) rfl (by decide) in_X8 (Or.inl q2071) (Or.inl rfl) dX8_takes_79 (fun v14 => ?_)
  refine zs_dup hE (zcat_rf _) dX8_takes_82 ?_
  refine zs_getI hE (ci := 34) (k := 18) rfl (by decide) in_X2 (Or.inr ⟨_, zn q266 rfl⟩) (Or.inl rfl) dX8_takes_83 (fun v15 => ?_)
  refine zs_iload_n hE 0 rfl rfl dX8_takes_86 ?_
  refine zs_iadd hE dX8_takes_87 ?_
  refine zs_putI hE (ci := 34) (k := 18) rfl (by decide) in_X2 (Or.inr ⟨_, zn q266 rfl⟩) (Or.inl rfl) (Or.inl rfl) (fun h => nomatch h) rfl dX8_takes_88 ?_
  refine zs_aload_n hE 2 rfl rfl dX8_takes_91 ?_
  refine zs_getR hE (ci := 40) (k := 0) rfl (by decide) in_X8 (Or.inl q2071) (Or.inl rfl) dX8_takes_92 (fun v16 => ?_)
  refine zs_aload_n hE 2 rfl rfl dX8_takes_95 ?_
  refine zs_getR hE (ci := 40) (k := 0) rfl (by decide) in_X8 (Or.inl q2071) (Or.inl rfl) dX8_takes_96 (fun v17 => ?_)
  refine zs_getI hE (ci := 34) (k := 19) rfl (by decide) in_X2 (Or.inr ⟨_, zn q269 rfl⟩) (Or.inl rfl) dX8_takes_99 (fun v18 => ?_)
  refine zs_iload_n hE 0 rfl rfl dX8_takes_102 ?_
  refine zs_callS hE (As := [.int v18, .int (v12 - v13)]) (encA := encI) (met_J16_max K v18 (v12 - v13)) q1154 q116 q2116 q1153 hd_J16_max (by decide) (by decide) rfl (by simp [zcat_rf, zcat_i, zcat_j, zcat_f, zcat_d]) (fun z hz => by cases hz) dX8_takes_103 (fun r19 => ?_)
  show zS _ 106 _ [.int r19, va_rf v16] _
  refine zs_putI hE (ci := 34) (k := 19) rfl (by decide) in_X2 (Or.inr ⟨_, zn q269 rfl⟩) (Or.inl rfl) (Or.inl rfl) (fun h => nomatch h) rfl dX8_takes_106 ?_
  exact zs_vret hE dX8_takes_109
theorem hd_X8_takes : (yX8_takes).cls ≠ "java/lang/invoke/MethodHandle" ∧ (yX8_takes).cls ≠ "java/lang/invoke/VarHandle" ∧ (parseMethodDescriptor (yX8_takes).desc).map (fun d => d.parameters.length) = some 1 := by decide +kernel
theorem met_X8_takes (K : ZK) (this : Nat) (a1 : Option Nat) : zMeth K yX8_takes (zws yX8_takes cX8_takes 4 none) 4 166 [.ref this, va_rf a1] encV (s_X8_takes K this a1) :=
  fun l G hl hK => zmet_of hl hK (by decide +kernel) rfl rfl (by simp [zsl_nil, zsl_rf, zsl_r, zsl_i, zsl_j, zsl_f, zsl_d]) (fun x hE => by simp only [zla_nil, zla_rf, zla_r, zla_i, zla_j, zla_f, zla_d, Nat.reduceAdd]; exact sm_X8_takes hE this a1)
theorem sm_X8_comesToken_J83 {x : ZX Unit} {K : ZK} (hE : zE x K cX8_comesToken RX8 "comesToken" 2 5 189 encV none []) (t0 : Int32) (t1 : Option Nat) : zS x 83 [] [.int t0, va_rf t1] (s_X8_comesToken_J83 K t0 t1) := by
  unfold s_X8_comesToken_J83
  refine zs_putI hE (ci := 34) (k := 3) rfl (by decide) in_X2 (Or.inr ⟨_, zn q226 rfl⟩) (Or.inl rfl) (Or.inl rfl) (fun h => nomatch h) rfl dX8_comesToken_83 ?_
  exact zs_vret hE dX8_comesToken_86
theorem sm_X8_comesToken {x : ZX Unit} {K : ZK} (hE : zE x K cX8_comesToken RX8 "comesToken" 2 5 189 encV none []) (this : Nat) (a1 : Option Nat) : zS x 0 [(0, va_rf (some this)), (1, va_rf a1)] [] (s_X8_comesToken K this a1) := by
  unfold s_X8_comesToken
  refine zs_aload_n hE 1 rfl rfl dX8_comesToken_0 ?_
  refine zs_callV hE (As := []) (encA := encI) (ci := 37) rfl (fun y0 => met_X5_rank K y0) q2106 q131 q2103 q2104 (zq q2105) hd_X5_rank (by decide) (by decide) rfl (by simp [zcat_rf, zcat_i, zcat_j, zcat_f, zcat_d]) (fun z hz => by cases hz) dX8_comesToken_1 (fun r1 => ?_)
  show zS _ 4 _ [.int r1] _
  refine zs_aload_n hE 0 rfl rfl dX8_comesToken_4 ?_
  refine zs_getR hE (ci := 40) (k := 0) rfl (by decide) in_X8 (Or.inl q2071) (Or.inl rfl) dX8_comesToken_5 (fun v2 => ?_)
  refine zs_getI hE (ci := 34) (k := 3) rfl (by decide) in_X2 (Or.inr ⟨_, zn q226 rfl⟩) (Or.inl rfl) dX8_comesToken_8 (fun v3 => ?_)
  refine zs_icmp_lt hE 20 (by decide) dX8_comesToken_11 ?_ ?_
  · refine zs_aload_n hE 1 rfl rfl dX8_comesToken_20 ?_
    refine zs_getI hE (ci := 37) (k := 0) rfl (by decide) in_X5 (Or.inr ⟨_, zn q1549 rfl⟩) (Or.inl rfl) dX8_comesToken_21 (fun v4 => ?_)
    refine zs_aload_n hE 0 rfl rfl dX8_comesToken_24 ?_
    refine zs_getR hE (ci := 40) (k := 0) rfl (by decide) in_X8 (Or.inl q2071) (Or.inl rfl) dX8_comesToken_25 (fun v5 => ?_)
    refine zs_getI hE (ci := 34) (k := 6) rfl (by decide) in_X2 (Or.inr ⟨_, zn q234 rfl⟩) (Or.inl rfl) dX8_comesToken_28 (fun v6 => ?_)
    refine zs_icmp_ne hE 86 (by decide) dX8_comesToken_31 ?_ ?_
    · refine zs_aload_n hE 0 rfl rfl dX8_comesToken_34 ?_
      refine zs_getR hE (ci := 40) (k := 0) rfl (by decide) in_X8 (Or.inl q2071) (Or.inl rfl) dX8_comesToken_35 (fun v7 => ?_)
      refine zs_getI hE (ci := 34) (k := 3) rfl (by decide) in_X2 (Or.inr ⟨_, zn q226 rfl⟩) (Or.inl rfl) dX8_comesToken_38 (fun v8 => ?_)
      refine zs_if_le hE 86 (by decide) dX8_comesToken_41 ?_ ?_
      · exact zs_vret hE dX8_comesToken_86
      · refine zs_aload_n hE 0 rfl rfl dX8_comesToken_44 ?_
        refine zs_getR hE (ci := 40) (k := 0) rfl (by decide) in_X8 (Or.inl q2071) (Or.inl rfl) dX8_comesToken_45 (fun v9 => ?_)
        refine zs_dup hE (zcat_rf _) dX8_comesToken_48 ?_
        refine zs_getI hE (ci := 34) (k := 4) rfl (by decide) in_X2 (Or.inr ⟨_, zn q229 rfl⟩) (Or.inl rfl) dX8_comesToken_49 (fun v10 => ?_)
        refine zs_iconst hE (v := (1 : Int32)) (by decide) dX8_comesToken_52 ?_
        refine zs_iadd hE dX8_comesToken_53 ?_
        refine zs_putI hE (ci := 34) (k := 4) rfl (by decide) in_X2 (Or.inr ⟨_, zn q229 rfl⟩) (Or.inl rfl) (Or.inl rfl) (fun h => nomatch h) rfl dX8_comesToken_54 ?_
        refine zs_aload_n hE 0 rfl rfl dX8_comesToken_57 ?_
        refine zs_getR hE (ci := 40) (k := 0) rfl (by decide) in_X8 (Or.inl q2071) (Or.inl rfl) dX8_comesToken_58 (fun v11 => ?_)
        refine zs_aload_n hE 0 rfl rfl dX8_comesToken_61 ?_
        refine zs_getR hE (ci := 40) (k := 0) rfl (by decide) in_X8 (Or.inl q2071) (Or.inl rfl) dX8_comesToken_62 (fun v12 => ?_)
        refine zs_getI hE (ci := 34) (k := 4) rfl (by decide) in_X2 (Or.inr ⟨_, zn q229 rfl⟩) (Or.inl rfl) dX8_comesToken_65 (fun v13 => ?_)
        refine zs_iconst hE (v := (3 : Int32)) (by decide) dX8_comesToken_68 ?_
        refine zs_icmp_ne hE 76 (by decide) dX8_comesToken_69 ?_ ?_
        · refine zs_iconst hE (v := (0 : Int32)) (by decide) dX8_comesToken_72 ?_
          refine zs_goto hE 83 (by decide) dX8_comesToken_73 ?_
          refine zs_sub [] rfl ?_
          exact sm_X8_comesToken_J83 hE (0 : Int32) v11
        · refine zs_aload_n hE 0 rfl rfl dX8_comesToken_76 ?_
          refine zs_getR hE (ci := 40) (k := 0) rfl (by decide) in_X8 (Or.inl q2071) (Or.inl rfl) dX8_comesToken_77 (fun v14 => ?_)
          refine zs_getI hE (ci := 34) (k := 3) rfl (by decide) in_X2 (Or.inr ⟨_, zn q226 rfl⟩) (Or.inl rfl) dX8_comesToken_80 (fun v15 => ?_)
          refine zs_sub [] rfl ?_
          exact sm_X8_comesToken_J83 hE v15 v11
    · exact zs_vret hE dX8_comesToken_86
  · refine zs_aload_n hE 0 rfl rfl dX8_comesToken_14 ?_
    refine zs_aload_n hE 1 rfl rfl dX8_comesToken_15 ?_
    refine zs_callV hE (As := [va_rf a1]) (encA := encV) (ci := 40) rfl (fun y0 => met_X8_takes K y0 a1) q2111 q142 q2108 q2110 (zq qs25) hd_X8_takes (by decide) (by decide) rfl (by simp [zcat_rf, zcat_i, zcat_j, zcat_f, zcat_d]) (fun z hz => by cases hz) dX8_comesToken_16 (fun _ => ?_)
    show zS _ 19 _ [] _
    exact zs_vret hE dX8_comesToken_19
theorem hd_X8_comesToken : (yX8_comesToken).cls ≠ "java/lang/invoke/MethodHandle" ∧ (yX8_comesToken).cls ≠ "java/lang/invoke/VarHandle" ∧ (parseMethodDescriptor (yX8_comesToken).desc).map (fun d => d.parameters.length) = some 1 := by decide +kernel
theorem met_X8_comesToken (K : ZK) (this : Nat) (a1 : Option Nat) : zMeth K yX8_comesToken (zws yX8_comesToken cX8_comesToken 2 none) 5 189 [.ref this, va_rf a1] encV (s_X8_comesToken K this a1) :=
  fun l G hl hK => zmet_of hl hK (by decide +kernel) rfl rfl (by simp [zsl_nil, zsl_rf, zsl_r, zsl_i, zsl_j, zsl_f, zsl_d]) (fun x hE => by simp only [zla_nil, zla_rf, zla_r, zla_i, zla_j, zla_f, zla_d, Nat.reduceAdd]; exact sm_X8_comesToken hE this a1)
theorem sm_X8_receives_J95 {x : ZX Unit} {K : ZK} (hE : zE x K cX8_receives RX8 "receives" 2 1 100 encV none []) (t0 : Int32) (t1 : Int32) (t2 : Option Nat) : zS x 95 [] [.int t0, .int t1, va_rf t2] (s_X8_receives_J95 K t0 t1 t2) := by
  unfold s_X8_receives_J95
  refine zs_ior hE dX8_receives_95 ?_
  refine zs_putT hE (ci := 34) (k := 24) rfl (by decide) in_X2 (Or.inr ⟨_, zn q282 rfl⟩) (Or.inl rfl) (Or.inl rfl) (fun h => nomatch h) rfl dX8_receives_96 ?_
  exact zs_vret hE dX8_receives_99
theorem sm_X8_receives {x : ZX Unit} {K : ZK} (hE : zE x K cX8_receives RX8 "receives" 2 1 100 encV none []) (this : Nat) (a1 : Option Nat) : zS x 0 [(0, va_rf (some this)), (1, va_rf a1)] [] (s_X8_receives K this a1) := by
  unfold s_X8_receives
  refine zs_aload_n hE 0 rfl rfl dX8_receives_0 ?_
  refine zs_getR hE (ci := 40) (k := 0) rfl (by decide) in_X8 (Or.inl q2071) (Or.inl rfl) dX8_receives_1 (fun v1 => ?_)
  refine zs_getR hE (ci := 34) (k := 5) rfl (by decide) in_X2 (Or.inr ⟨_, zn q231 rfl⟩) (Or.inl rfl) dX8_receives_4 (fun v2 => ?_)
  refine zs_iconst hE (v := (1 : Int32)) (by decide) dX8_receives_7 ?_
  refine zs_putT hE (ci := 38) (k := 3) rfl (by decide) in_X6 (Or.inr ⟨_, zn q1746 rfl⟩) (Or.inl rfl) (Or.inl rfl) (fun h => nomatch h) rfl dX8_receives_8 ?_
  refine zs_aload_n hE 1 rfl rfl dX8_receives_11 ?_
  refine zs_dup hE (zcat_rf _) dX8_receives_12 ?_
  refine zs_getI hE (ci := 37) (k := 3) rfl (by decide) in_X5 (Or.inr ⟨_, zn q1560 rfl⟩) (Or.inl rfl) dX8_receives_13 (fun v3 => ?_)
  refine zs_iconst hE (v := (1 : Int32)) (by decide) dX8_receives_16 ?_
  refine zs_iadd hE dX8_receives_17 ?_
  refine zs_putI hE (ci := 37) (k := 3) rfl (by decide) in_X5 (Or.inr ⟨_, zn q1560 rfl⟩) (Or.inl rfl) (Or.inl rfl) (fun h => nomatch h) rfl dX8_receives_18 ?_
  refine zs_aload_n hE 0 rfl rfl dX8_receives_21 ?_
  refine zs_getR hE (ci := 40) (k := 0) rfl (by decide) in_X8 (Or.inl q2071) (Or.inl rfl) dX8_receives_22 (fun v4 => ?_)
  refine zs_dup hE (zcat_rf _) dX8_receives_25 ?_
  refine zs_getI hE (ci := 34) (k := 11) rfl (by decide) in_X2 (Or.inr ⟨_, zn q248 rfl⟩) (Or.inl rfl) dX8_receives_26 (fun v5 => ?_)
  refine zs_iconst hE (v := (1 : Int32)) (by decide) dX8_receives_29 ?_
  refine zs_iadd hE dX8_receives_30 ?_
  refine zs_putI hE (ci := 34) (k := 11) rfl (by decide) in_X2 (Or.inr ⟨_, zn q248 rfl⟩) (Or.inl rfl) (Or.inl rfl) (fun h => nomatch h) rfl dX8_receives_31 ?_
  refine zs_aload_n hE 0 rfl rfl dX8_receives_34 ?_
  refine zs_getR hE (ci := 40) (k := 0) rfl (by decide) in_X8 (Or.inl q2071) (Or.inl rfl) dX8_receives_35 (fun v6 => ?_)
  refine zs_dup hE (zcat_rf _) dX8_receives_38 ?_
  refine zs_getI hE (ci := 34) (k := 17) rfl (by decide) in_X2 (Or.inr ⟨_, zn q263 rfl⟩) (Or.inl rfl) dX8_receives_39 (fun v7 => ?_)
  refine zs_aload_n hE 0 rfl rfl dX8_receives_42 ?_
  refine zs_getR hE (ci := 40) (k := 0) rfl (by decide) in_X8 (Or.inl q2071) (Or.inl rfl) dX8_receives_43 (fun v8 => ?_)
  refine zs_getR hE (ci := 34) (k := 5) rfl (by decide) in_X2 (Or.inr ⟨_, zn q231 rfl⟩) (Or.inl rfl) dX8_receives_46 (fun v9 => ?_)
  refine zs_getR hE (ci := 38) (k := 0) rfl (by decide) in_X6 (Or.inr ⟨_, zn q1737 rfl⟩) (Or.inl rfl) dX8_receives_49 (fun v10 => ?_)
  refine zs_getI hE (ci := 39) (k := 4) rfl (by decide) in_X7 (Or.inr ⟨_, zn q1944 rfl⟩) (Or.inl rfl) dX8_receives_52 (fun v11 => ?_)
  refine zs_iadd hE dX8_receives_55 ?_
  refine zs_putI hE (ci := 34) (k := 17) rfl (by decide) in_X2 (Or.inr ⟨_, zn q263 rfl⟩) (Or.inl rfl) (Or.inl rfl) (fun h => nomatch h) rfl dX8_receives_56 ?_
  refine zs_aload_n hE 0 rfl rfl dX8_receives_59 ?_
  refine zs_getR hE (ci := 40) (k := 0) rfl (by decide) in_X8 (Or.inl q2071) (Or.inl rfl) dX8_receives_60 (fun v12 => ?_)
  refine zs_dup hE (zcat_rf _) dX8_receives_63 ?_
  refine zs_getI hE (ci := 34) (k := 24) rfl (by decide) in_X2 (Or.inr ⟨_, zn q282 rfl⟩) (Or.inl rfl) dX8_receives_64 (fun v13 => ?_)
  refine zs_aload_n hE 0 rfl rfl dX8_receives_67 ?_
  refine zs_getR hE (ci := 40) (k := 0) rfl (by decide) in_X8 (Or.inl q2071) (Or.inl rfl) dX8_receives_68 (fun v14 => ?_)
  refine zs_getR hE (ci := 34) (k := 5) rfl (by decide) in_X2 (Or.inr ⟨_, zn q231 rfl⟩) (Or.inl rfl) dX8_receives_71 (fun v15 => ?_)
  refine zs_getR hE (ci := 38) (k := 0) rfl (by decide) in_X6 (Or.inr ⟨_, zn q1737 rfl⟩) (Or.inl rfl) dX8_receives_74 (fun v16 => ?_)
  refine zs_getI hE (ci := 39) (k := 0) rfl (by decide) in_X7 (Or.inr ⟨_, zn q1932 rfl⟩) (Or.inl rfl) dX8_receives_77 (fun v17 => ?_)
  refine zs_aload_n hE 0 rfl rfl dX8_receives_80 ?_
  refine zs_getR hE (ci := 40) (k := 0) rfl (by decide) in_X8 (Or.inl q2071) (Or.inl rfl) dX8_receives_81 (fun v18 => ?_)
  refine zs_getI hE (ci := 34) (k := 23) rfl (by decide) in_X2 (Or.inr ⟨_, zn q280 rfl⟩) (Or.inl rfl) dX8_receives_84 (fun v19 => ?_)
  refine zs_icmp_ne hE 94 (by decide) dX8_receives_87 ?_ ?_
  · refine zs_iconst hE (v := (1 : Int32)) (by decide) dX8_receives_90 ?_
    refine zs_goto hE 95 (by decide) dX8_receives_91 ?_
    refine zs_sub [] rfl ?_
    exact sm_X8_receives_J95 hE (1 : Int32) v13 v12
  · refine zs_iconst hE (v := (0 : Int32)) (by decide) dX8_receives_94 ?_
    refine zs_sub [] rfl ?_
    exact sm_X8_receives_J95 hE (0 : Int32) v13 v12
theorem hd_X8_receives : (yX8_receives).cls ≠ "java/lang/invoke/MethodHandle" ∧ (yX8_receives).cls ≠ "java/lang/invoke/VarHandle" ∧ (parseMethodDescriptor (yX8_receives).desc).map (fun d => d.parameters.length) = some 1 := by decide +kernel
theorem met_X8_receives (K : ZK) (this : Nat) (a1 : Option Nat) : zMeth K yX8_receives (zws yX8_receives cX8_receives 2 none) 1 100 [.ref this, va_rf a1] encV (s_X8_receives K this a1) :=
  fun l G hl hK => zmet_of hl hK (by decide +kernel) rfl rfl (by simp [zsl_nil, zsl_rf, zsl_r, zsl_i, zsl_j, zsl_f, zsl_d]) (fun x hE => by simp only [zla_nil, zla_rf, zla_r, zla_i, zla_j, zla_f, zla_d, Nat.reduceAdd]; exact sm_X8_receives hE this a1)
theorem sm_X6_rankBehind {x : ZX Int32} {K : ZK} (hE : zE x K cX6_rankBehind RX6 "rankBehind" 1 2 121 encI (Option.some Jvm.ClassFile.FieldType.int) []) (this : Nat) : zS x 0 [(0, va_rf (some this))] [] (s_X6_rankBehind K this) := by
  unfold s_X6_rankBehind
  refine zs_aload_n hE 0 rfl rfl dX6_rankBehind_0 ?_
  refine zs_getI hE (ci := 38) (k := 2) rfl (by decide) in_X6 (Or.inl q1742) (Or.inl rfl) dX6_rankBehind_1 (fun v1 => ?_)
  refine zs_aload_n hE 0 rfl rfl dX6_rankBehind_4 ?_
  refine zs_getI hE (ci := 38) (k := 1) rfl (by decide) in_X6 (Or.inl q1740) (Or.inl rfl) dX6_rankBehind_5 (fun v2 => ?_)
  refine zs_callS hE (As := [.int v1, .int v2]) (encA := encI) (met_J16_max K v1 v2) q1154 q116 q2129 q1153 hd_J16_max (by decide) (by decide) rfl (by simp [zcat_rf, zcat_i, zcat_j, zcat_f, zcat_d]) (fun z hz => by cases hz) dX6_rankBehind_8 (fun r3 => ?_)
  show zS _ 11 _ [.int r3] _
  exact zs_iret hE dX6_rankBehind_11
theorem hd_X6_rankBehind : (yX6_rankBehind).cls ≠ "java/lang/invoke/MethodHandle" ∧ (yX6_rankBehind).cls ≠ "java/lang/invoke/VarHandle" ∧ (parseMethodDescriptor (yX6_rankBehind).desc).map (fun d => d.parameters.length) = some 0 := by decide +kernel
theorem met_X6_rankBehind (K : ZK) (this : Nat) : zMeth K yX6_rankBehind (zws yX6_rankBehind cX6_rankBehind 1 (Option.some Jvm.ClassFile.FieldType.int)) 2 121 [.ref this] encI (s_X6_rankBehind K this) :=
  fun l G hl hK => zmet_of hl hK (by decide +kernel) rfl rfl (by simp [zsl_nil, zsl_rf, zsl_r, zsl_i, zsl_j, zsl_f, zsl_d]) (fun x hE => by simp only [zla_nil, zla_rf, zla_r, zla_i, zla_j, zla_f, zla_d, Nat.reduceAdd]; exact sm_X6_rankBehind hE this)
theorem sm_X8_comesFrame_J163 {x : ZX Unit} {K : ZK} (hE : zE x K cX8_comesFrame RX8 "comesFrame" 2 5 184 encV none []) (x0 : Nat) (x1 : Option Nat) : zS x 163 [(0, va_rf (some x0)), (1, va_rf x1)] [] (s_X8_comesFrame_J163 K x0 x1) := by
  unfold s_X8_comesFrame_J163
  refine zs_aload_n hE 0 rfl rfl dX8_comesFrame_163 ?_
  refine zs_getR hE (ci := 40) (k := 0) rfl (by decide) in_X8 (Or.inl q2071) (Or.inl rfl) dX8_comesFrame_164 (fun v30 => ?_)
  refine zs_getR hE (ci := 34) (k := 5) rfl (by decide) in_X2 (Or.inr ⟨_, zn q231 rfl⟩) (Or.inl rfl) dX8_comesFrame_167 (fun v31 => ?_)
  refine zs_aload_n hE 0 rfl rfl dX8_comesFrame_170 ?_
  refine zs_getR hE (ci := 40) (k := 0) rfl (by decide) in_X8 (Or.inl q2071) (Or.inl rfl) dX8_comesFrame_171 (fun v32 => ?_)
  refine zs_getR hE (ci := 34) (k := 5) rfl (by decide) in_X2 (Or.inr ⟨_, zn q231 rfl⟩) (Or.inl rfl) dX8_comesFrame_174 (fun v33 => ?_)
  refine zs_getI hE (ci := 38) (k := 2) rfl (by decide) in_X6 (Or.inr ⟨_, zn q1743 rfl⟩) (Or.inl rfl) dX8_comesFrame_177 (fun v34 => ?_)
  refine zs_aload_n hE 1 rfl rfl dX8_comesFrame_180 ?_
  refine zs_callV hE (As := []) (encA := encI) (ci := 37) rfl (fun y0 => met_X5_rank K y0) q2106 q131 q2103 q2104 (zq q2105) hd_X5_rank (by decide) (by decide) rfl (by simp [zcat_rf, zcat_i, zcat_j, zcat_f, zcat_d]) (fun z hz => by cases hz) dX8_comesFrame_181 (fun r35 => ?_)
  show zS _ 184 _ [.int r35, .int v34, va_rf v31] _
  refine zs_callS hE (As := [.int v34, .int r35]) (encA := encI) (met_J16_max K v34 r35) q1154 q116 q2116 q1153 hd_J16_max (by decide) (by decide) rfl (by simp [zcat_rf, zcat_i, zcat_j, zcat_f, zcat_d]) (fun z hz => by cases hz) dX8_comesFrame_184 (fun r36 => ?_)
  show zS _ 187 _ [.int r36, va_rf v31] _
  refine zs_putI hE (ci := 38) (k := 2) rfl (by decide) in_X6 (Or.inr ⟨_, zn q1743 rfl⟩) (Or.inl rfl) (Or.inl rfl) (fun h => nomatch h) rfl dX8_comesFrame_187 ?_
  exact zs_vret hE dX8_comesFrame_190
theorem sm_X8_comesFrame_J38 {x : ZX Unit} {K : ZK} (hE : zE x K cX8_comesFrame RX8 "comesFrame" 2 5 184 encV none []) (x0 : Nat) (x1 : Option Nat) : zS x 38 [(0, va_rf (some x0)), (1, va_rf x1)] [] (s_X8_comesFrame_J38 K x0 x1) := by
  unfold s_X8_comesFrame_J38
  refine zs_aload_n hE 1 rfl rfl dX8_comesFrame_38 ?_
  refine zs_getI hE (ci := 37) (k := 0) rfl (by decide) in_X5 (Or.inr ⟨_, zn q1549 rfl⟩) (Or.inl rfl) dX8_comesFrame_39 (fun v9 => ?_)
  refine zs_aload_n hE 0 rfl rfl dX8_comesFrame_42 ?_
  refine zs_getR hE (ci := 40) (k := 0) rfl (by decide) in_X8 (Or.inl q2071) (Or.inl rfl) dX8_comesFrame_43 (fun v10 => ?_)
  refine zs_getR hE (ci := 34) (k := 5) rfl (by decide) in_X2 (Or.inr ⟨_, zn q231 rfl⟩) (Or.inl rfl) dX8_comesFrame_46 (fun v11 => ?_)
  refine zs_getR hE (ci := 38) (k := 0) rfl (by decide) in_X6 (Or.inr ⟨_, zn q1737 rfl⟩) (Or.inl rfl) dX8_comesFrame_49 (fun v12 => ?_)
  refine zs_getI hE (ci := 39) (k := 1) rfl (by decide) in_X7 (Or.inr ⟨_, zn q1936 rfl⟩) (Or.inl rfl) dX8_comesFrame_52 (fun v13 => ?_)
  refine zs_icmp_ne hE 96 (by decide) dX8_comesFrame_55 ?_ ?_
  · refine zs_aload_n hE 0 rfl rfl dX8_comesFrame_58 ?_
    refine zs_getR hE (ci := 40) (k := 0) rfl (by decide) in_X8 (Or.inl q2071) (Or.inl rfl) dX8_comesFrame_59 (fun v14 => ?_)
    refine zs_dup hE (zcat_rf _) dX8_comesFrame_62 ?_
    refine zs_getI hE (ci := 34) (k := 12) rfl (by decide) in_X2 (Or.inr ⟨_, zn q251 rfl⟩) (Or.inl rfl) dX8_comesFrame_63 (fun v15 => ?_)
    refine zs_iconst hE (v := (1 : Int32)) (by decide) dX8_comesFrame_66 ?_
    refine zs_iadd hE dX8_comesFrame_67 ?_
    refine zs_putI hE (ci := 34) (k := 12) rfl (by decide) in_X2 (Or.inr ⟨_, zn q251 rfl⟩) (Or.inl rfl) (Or.inl rfl) (fun h => nomatch h) rfl dX8_comesFrame_68 ?_
    refine zs_aload_n hE 0 rfl rfl dX8_comesFrame_71 ?_
    refine zs_getR hE (ci := 40) (k := 0) rfl (by decide) in_X8 (Or.inl q2071) (Or.inl rfl) dX8_comesFrame_72 (fun v16 => ?_)
    refine zs_aload_n hE 0 rfl rfl dX8_comesFrame_75 ?_
    refine zs_getR hE (ci := 40) (k := 0) rfl (by decide) in_X8 (Or.inl q2071) (Or.inl rfl) dX8_comesFrame_76 (fun v17 => ?_)
    refine zs_getI hE (ci := 34) (k := 2) rfl (by decide) in_X2 (Or.inr ⟨_, zn q223 rfl⟩) (Or.inl rfl) dX8_comesFrame_79 (fun v18 => ?_)
    refine zs_aload_n hE 0 rfl rfl dX8_comesFrame_82 ?_
    refine zs_getR hE (ci := 40) (k := 0) rfl (by decide) in_X8 (Or.inl q2071) (Or.inl rfl) dX8_comesFrame_83 (fun v19 => ?_)
    refine zs_getR hE (ci := 34) (k := 5) rfl (by decide) in_X2 (Or.inr ⟨_, zn q231 rfl⟩) (Or.inl rfl) dX8_comesFrame_86 (fun v20 => ?_)
    refine zs_callV hE (As := []) (encA := encI) (ci := 38) rfl (fun y0 => met_X6_rankBehind K y0) q2128 q137 q2125 q2126 (zq q2127) hd_X6_rankBehind (by decide) (by decide) rfl (by simp [zcat_rf, zcat_i, zcat_j, zcat_f, zcat_d]) (fun z hz => by cases hz) dX8_comesFrame_89 (fun r21 => ?_)
    show zS _ 92 _ [.int r21, .int v18, va_rf v16] _
    refine zs_callV hE (As := [.int v18, .int r21]) (encA := encV) (ci := 34) rfl (fun y0 => met_X2_tokenComes K y0 v18 r21) q2045 q96 q2083 q2043 (zq q2044) hd_X2_tokenComes (by decide) (by decide) rfl (by simp [zcat_rf, zcat_i, zcat_j, zcat_f, zcat_d]) (fun z hz => by cases hz) dX8_comesFrame_92 (fun _ => ?_)
    show zS _ 95 _ [] _
    exact zs_vret hE dX8_comesFrame_95
  · refine zs_aload_n hE 1 rfl rfl dX8_comesFrame_96 ?_
    refine zs_getI hE (ci := 37) (k := 0) rfl (by decide) in_X5 (Or.inr ⟨_, zn q1549 rfl⟩) (Or.inl rfl) dX8_comesFrame_97 (fun v22 => ?_)
    refine zs_aload_n hE 0 rfl rfl dX8_comesFrame_100 ?_
    refine zs_getR hE (ci := 40) (k := 0) rfl (by decide) in_X8 (Or.inl q2071) (Or.inl rfl) dX8_comesFrame_101 (fun v23 => ?_)
    refine zs_getI hE (ci := 34) (k := 6) rfl (by decide) in_X2 (Or.inr ⟨_, zn q234 rfl⟩) (Or.inl rfl) dX8_comesFrame_104 (fun v24 => ?_)
    refine zs_icmp_ne hE 163 (by decide) dX8_comesFrame_107 ?_ ?_
    · refine zs_aload_n hE 0 rfl rfl dX8_comesFrame_110 ?_
      refine zs_getR hE (ci := 40) (k := 0) rfl (by decide) in_X8 (Or.inl q2071) (Or.inl rfl) dX8_comesFrame_111 (fun v25 => ?_)
      refine zs_getR hE (ci := 34) (k := 5) rfl (by decide) in_X2 (Or.inr ⟨_, zn q231 rfl⟩) (Or.inl rfl) dX8_comesFrame_114 (fun v26 => ?_)
      refine zs_getI hE (ci := 38) (k := 4) rfl (by decide) in_X6 (Or.inr ⟨_, zn q1749 rfl⟩) (Or.inl rfl) dX8_comesFrame_117 (fun v27 => ?_)
      refine zs_if_eq hE 152 (by decide) dX8_comesFrame_120 ?_ ?_
      · refine zs_aload_n hE 0 rfl rfl dX8_comesFrame_152 ?_
        refine zs_getR hE (ci := 40) (k := 0) rfl (by decide) in_X8 (Or.inl q2071) (Or.inl rfl) dX8_comesFrame_153 (fun v28 => ?_)
        refine zs_getR hE (ci := 34) (k := 5) rfl (by decide) in_X2 (Or.inr ⟨_, zn q231 rfl⟩) (Or.inl rfl) dX8_comesFrame_156 (fun v29 => ?_)
        refine zs_iconst hE (v := (1 : Int32)) (by decide) dX8_comesFrame_159 ?_
        refine zs_putT hE (ci := 38) (k := 4) rfl (by decide) in_X6 (Or.inr ⟨_, zn q1749 rfl⟩) (Or.inl rfl) (Or.inl rfl) (fun h => nomatch h) rfl dX8_comesFrame_160 ?_
        exact sm_X8_comesFrame_J163 hE x0 x1
      · refine zs_aload_n hE 0 rfl rfl dX8_comesFrame_123 ?_
        refine zs_getR hE (ci := 40) (k := 0) rfl (by decide) in_X8 (Or.inl q2071) (Or.inl rfl) dX8_comesFrame_124 (fun v37 => ?_)
        refine zs_dup hE (zcat_rf _) dX8_comesFrame_127 ?_
        refine zs_getI hE (ci := 34) (k := 13) rfl (by decide) in_X2 (Or.inr ⟨_, zn q254 rfl⟩) (Or.inl rfl) dX8_comesFrame_128 (fun v38 => ?_)
        refine zs_iconst hE (v := (1 : Int32)) (by decide) dX8_comesFrame_131 ?_
        refine zs_iadd hE dX8_comesFrame_132 ?_
        refine zs_putI hE (ci := 34) (k := 13) rfl (by decide) in_X2 (Or.inr ⟨_, zn q254 rfl⟩) (Or.inl rfl) (Or.inl rfl) (fun h => nomatch h) rfl dX8_comesFrame_133 ?_
        refine zs_aload_n hE 0 rfl rfl dX8_comesFrame_136 ?_
        refine zs_getR hE (ci := 40) (k := 0) rfl (by decide) in_X8 (Or.inl q2071) (Or.inl rfl) dX8_comesFrame_137 (fun v39 => ?_)
        refine zs_aload_n hE 0 rfl rfl dX8_comesFrame_140 ?_
        refine zs_getR hE (ci := 40) (k := 0) rfl (by decide) in_X8 (Or.inl q2071) (Or.inl rfl) dX8_comesFrame_141 (fun v40 => ?_)
        refine zs_getI hE (ci := 34) (k := 2) rfl (by decide) in_X2 (Or.inr ⟨_, zn q223 rfl⟩) (Or.inl rfl) dX8_comesFrame_144 (fun v41 => ?_)
        refine zs_iconst hE (v := (0 : Int32)) (by decide) dX8_comesFrame_147 ?_
        refine zs_callV hE (As := [.int v41, .int (0 : Int32)]) (encA := encV) (ci := 34) rfl (fun y0 => met_X2_tokenComes K y0 v41 (0 : Int32)) q2045 q96 q2083 q2043 (zq q2044) hd_X2_tokenComes (by decide) (by decide) rfl (by simp [zcat_rf, zcat_i, zcat_j, zcat_f, zcat_d]) (fun z hz => by cases hz) dX8_comesFrame_148 (fun _ => ?_)
        show zS _ 151 _ [] _
        exact zs_vret hE dX8_comesFrame_151
    · exact sm_X8_comesFrame_J163 hE x0 x1
theorem sm_X8_comesFrame {x : ZX Unit} {K : ZK} (hE : zE x K cX8_comesFrame RX8 "comesFrame" 2 5 184 encV none []) (this : Nat) (a1 : Option Nat) : zS x 0 [(0, va_rf (some this)), (1, va_rf a1)] [] (s_X8_comesFrame K this a1) := by
  unfold s_X8_comesFrame
  refine zs_aload_n hE 1 rfl rfl dX8_comesFrame_0 ?_
  refine zs_getI hE (ci := 37) (k := 0) rfl (by decide) in_X5 (Or.inr ⟨_, zn q1549 rfl⟩) (Or.inl rfl) dX8_comesFrame_1 (fun v1 => ?_)
  refine zs_aload_n hE 0 rfl rfl dX8_comesFrame_4 ?_
  refine zs_getR hE (ci := 40) (k := 0) rfl (by decide) in_X8 (Or.inl q2071) (Or.inl rfl) dX8_comesFrame_5 (fun v2 => ?_)
  refine zs_getR hE (ci := 34) (k := 5) rfl (by decide) in_X2 (Or.inr ⟨_, zn q231 rfl⟩) (Or.inl rfl) dX8_comesFrame_8 (fun v3 => ?_)
  refine zs_getR hE (ci := 38) (k := 0) rfl (by decide) in_X6 (Or.inr ⟨_, zn q1737 rfl⟩) (Or.inl rfl) dX8_comesFrame_11 (fun v4 => ?_)
  refine zs_getI hE (ci := 39) (k := 2) rfl (by decide) in_X7 (Or.inr ⟨_, zn q1938 rfl⟩) (Or.inl rfl) dX8_comesFrame_14 (fun v5 => ?_)
  refine zs_icmp_ne hE 38 (by decide) dX8_comesFrame_17 ?_ ?_
  · refine zs_aload_n hE 0 rfl rfl dX8_comesFrame_20 ?_
    refine zs_getR hE (ci := 40) (k := 0) rfl (by decide) in_X8 (Or.inl q2071) (Or.inl rfl) dX8_comesFrame_21 (fun v6 => ?_)
    refine zs_getR hE (ci := 34) (k := 5) rfl (by decide) in_X2 (Or.inr ⟨_, zn q231 rfl⟩) (Or.inl rfl) dX8_comesFrame_24 (fun v7 => ?_)
    refine zs_getI hE (ci := 38) (k := 3) rfl (by decide) in_X6 (Or.inr ⟨_, zn q1746 rfl⟩) (Or.inl rfl) dX8_comesFrame_27 (fun v8 => ?_)
    refine zs_if_ne hE 38 (by decide) dX8_comesFrame_30 ?_ ?_
    · refine zs_aload_n hE 0 rfl rfl dX8_comesFrame_33 ?_
      refine zs_aload_n hE 1 rfl rfl dX8_comesFrame_34 ?_
      refine zs_callV hE (As := [va_rf a1]) (encA := encV) (ci := 40) rfl (fun y0 => met_X8_receives K y0 a1) q2124 q142 q2121 q2123 (zq qs27) hd_X8_receives (by decide) (by decide) rfl (by simp [zcat_rf, zcat_i, zcat_j, zcat_f, zcat_d]) (fun z hz => by cases hz) dX8_comesFrame_35 (fun _ => ?_)
      show zS _ 38 _ [] _
      exact sm_X8_comesFrame_J38 hE this a1
    · exact sm_X8_comesFrame_J38 hE this a1
  · exact sm_X8_comesFrame_J38 hE this a1
theorem hd_X8_comesFrame : (yX8_comesFrame).cls ≠ "java/lang/invoke/MethodHandle" ∧ (yX8_comesFrame).cls ≠ "java/lang/invoke/VarHandle" ∧ (parseMethodDescriptor (yX8_comesFrame).desc).map (fun d => d.parameters.length) = some 1 := by decide +kernel
theorem met_X8_comesFrame (K : ZK) (this : Nat) (a1 : Option Nat) : zMeth K yX8_comesFrame (zws yX8_comesFrame cX8_comesFrame 2 none) 5 184 [.ref this, va_rf a1] encV (s_X8_comesFrame K this a1) :=
  fun l G hl hK => zmet_of hl hK (by decide +kernel) rfl rfl (by simp [zsl_nil, zsl_rf, zsl_r, zsl_i, zsl_j, zsl_f, zsl_d]) (fun x hE => by simp only [zla_nil, zla_rf, zla_r, zla_i, zla_j, zla_f, zla_d, Nat.reduceAdd]; exact sm_X8_comesFrame hE this a1)
theorem sm_X8_goes_J86 {x : ZX Unit} {K : ZK} (hE : zE x K cX8_goes RX8 "goes" 2 8 253 encV none []) (x0 : Nat) : zS x 86 [(0, va_rf (some x0))] [] (s_X8_goes_J86 K x0) := by
  unfold s_X8_goes_J86
  refine zs_aload_n hE 0 rfl rfl dX8_goes_86 ?_
  refine zs_getR hE (ci := 40) (k := 0) rfl (by decide) in_X8 (Or.inl q2071) (Or.inl rfl) dX8_goes_87 (fun v3 => ?_)
  refine zs_dup hE (zcat_rf _) dX8_goes_90 ?_
  refine zs_getI hE (ci := 34) (k := 8) rfl (by decide) in_X2 (Or.inr ⟨_, zn q240 rfl⟩) (Or.inl rfl) dX8_goes_91 (fun v4 => ?_)
  refine zs_iconst hE (v := (1 : Int32)) (by decide) dX8_goes_94 ?_
  refine zs_iadd hE dX8_goes_95 ?_
  refine zs_putI hE (ci := 34) (k := 8) rfl (by decide) in_X2 (Or.inr ⟨_, zn q240 rfl⟩) (Or.inl rfl) (Or.inl rfl) (fun h => nomatch h) rfl dX8_goes_96 ?_
  exact zs_vret hE dX8_goes_99
theorem sm_X8_goes {x : ZX Unit} {K : ZK} (hE : zE x K cX8_goes RX8 "goes" 2 8 253 encV none []) (this : Nat) : zS x 0 [(0, va_rf (some this))] [] (s_X8_goes K this) := by
  unfold s_X8_goes
  refine zs_aload_n hE 0 rfl rfl dX8_goes_0 ?_
  refine zs_getR hE (ci := 40) (k := 0) rfl (by decide) in_X8 (Or.inl q2071) (Or.inl rfl) dX8_goes_1 (fun v1 => ?_)
  refine zs_getI hE (ci := 34) (k := 1) rfl (by decide) in_X2 (Or.inr ⟨_, zn q220 rfl⟩) (Or.inl rfl) dX8_goes_4 (fun v2 => ?_)
  refine zs_if_ne hE 17 (by decide) dX8_goes_7 ?_ ?_
  · refine zs_aload_n hE 0 rfl rfl dX8_goes_10 ?_
    refine zs_callV hE (As := []) (encA := encV) (ci := 40) rfl (fun y0 => met_X8_isSilent K y0) q2082 q142 q2079 q2081 (zq qs23) hd_X8_isSilent (by decide) (by decide) rfl (by simp [zcat_rf, zcat_i, zcat_j, zcat_f, zcat_d]) (fun z hz => by cases hz) dX8_goes_11 (fun _ => ?_)
    show zS _ 14 _ [] _
    refine zs_goto hE 86 (by decide) dX8_goes_14 ?_
    exact sm_X8_goes_J86 hE this
  · refine zs_aload_n hE 0 rfl rfl dX8_goes_17 ?_
    refine zs_getR hE (ci := 40) (k := 0) rfl (by decide) in_X8 (Or.inl q2071) (Or.inl rfl) dX8_goes_18 (fun v5 => ?_)
    refine zs_aload_n hE 0 rfl rfl dX8_goes_21 ?_
    refine zs_getR hE (ci := 40) (k := 0) rfl (by decide) in_X8 (Or.inl q2071) (Or.inl rfl) dX8_goes_22 (fun v6 => ?_)
    refine zs_aload_n hE 0 rfl rfl dX8_goes_25 ?_
    refine zs_getR hE (ci := 40) (k := 0) rfl (by decide) in_X8 (Or.inl q2071) (Or.inl rfl) dX8_goes_26 (fun v7 => ?_)
    refine zs_getI hE (ci := 34) (k := 2) rfl (by decide) in_X2 (Or.inr ⟨_, zn q223 rfl⟩) (Or.inl rfl) dX8_goes_29 (fun v8 => ?_)
    refine zs_callV hE (As := [.int v8]) (encA := encI) (ci := 34) rfl (fun y0 => met_X2_next K y0 v8) q901 q96 q2095 q899 (zq q900) hd_X2_next (by decide) (by decide) rfl (by simp [zcat_rf, zcat_i, zcat_j, zcat_f, zcat_d]) (fun z hz => by cases hz) dX8_goes_32 (fun r9 => ?_)
    show zS _ 35 _ [.int r9, va_rf v5] _
    refine zs_putI hE (ci := 34) (k := 2) rfl (by decide) in_X2 (Or.inr ⟨_, zn q223 rfl⟩) (Or.inl rfl) (Or.inl rfl) (fun h => nomatch h) rfl dX8_goes_35 ?_
    refine zs_aload_n hE 0 rfl rfl dX8_goes_38 ?_
    refine zs_getR hE (ci := 40) (k := 0) rfl (by decide) in_X8 (Or.inl q2071) (Or.inl rfl) dX8_goes_39 (fun v10 => ?_)
    refine zs_getR hE (ci := 34) (k := 0) rfl (by decide) in_X2 (Or.inr ⟨_, zn q217 rfl⟩) (Or.inl rfl) dX8_goes_42 (fun v11 => ?_)
    refine zs_aload_n hE 0 rfl rfl dX8_goes_45 ?_
    refine zs_getR hE (ci := 40) (k := 0) rfl (by decide) in_X8 (Or.inl q2071) (Or.inl rfl) dX8_goes_46 (fun v12 => ?_)
    refine zs_getI hE (ci := 34) (k := 2) rfl (by decide) in_X2 (Or.inr ⟨_, zn q223 rfl⟩) (Or.inl rfl) dX8_goes_49 (fun v13 => ?_)
    refine zs_callS hE (As := [.int v13]) (encA := encR) (met_J13_valueOf K v13) q904 q112 q2096 q903 hd_J13_valueOf (by decide) (by decide) rfl (by simp [zcat_rf, zcat_i, zcat_j, zcat_f, zcat_d]) (fun z hz => by cases hz) dX8_goes_52 (fun r14 => ?_)
    show zS _ 55 _ [va_rf r14, va_rf v11] _
    refine zs_callV hE (As := [va_rf r14]) (encA := encR) (ci := 0) rfl (fun y0 => met_J1_get K y0 r14) q1015 q98 q2097 q1013 (zq q1014) hd_J1_get (by decide) (by decide) rfl (by simp [zcat_rf, zcat_i, zcat_j, zcat_f, zcat_d]) (fun z hz => by cases hz) dX8_goes_55 (fun r15 => ?_)
    show zS _ 58 _ [va_rf r15] _
    refine zs_cast hE q2098 (zc1 rfl (Or.inl rfl)) dX8_goes_58 ?_
    refine zs_astore_n hE (i := 1) (q := 1) rfl (by decide) (zcat_rf (some this)) (lv' := [(0, va_rf (some this))]) rfl dX8_goes_61 ?_
    refine zs_aload_n hE 1 rfl rfl dX8_goes_62 ?_
    refine zs_getR hE (ci := 40) (k := 0) rfl (by decide) in_X8 (Or.inl q2071) (Or.inl rfl) dX8_goes_63 (fun v16 => ?_)
    refine zs_getI hE (ci := 34) (k := 1) rfl (by decide) in_X2 (Or.inr ⟨_, zn q220 rfl⟩) (Or.inl rfl) dX8_goes_66 (fun v17 => ?_)
    refine zs_iconst hE (v := (1 : Int32)) (by decide) dX8_goes_69 ?_
    refine zs_icmp_ne hE 81 (by decide) dX8_goes_70 ?_ ?_
    · refine zs_aload_n hE 1 rfl rfl dX8_goes_73 ?_
      refine zs_aload_n hE 0 rfl rfl dX8_goes_74 ?_
      refine zs_callV hE (As := [va_rf r15]) (encA := encV) (ci := 40) rfl (fun y0 => met_X8_comesToken K y0 r15) q2102 q142 q2099 q2101 (zq qs24) hd_X8_comesToken (by decide) (by decide) rfl (by simp [zcat_rf, zcat_i, zcat_j, zcat_f, zcat_d]) (fun z hz => by cases hz) dX8_goes_75 (fun _ => ?_)
      show zS _ 78 _ [] _
      refine zs_goto hE 86 (by decide) dX8_goes_78 ?_
      refine zs_sub [1] rfl ?_
      exact sm_X8_goes_J86 hE this
    · refine zs_aload_n hE 1 rfl rfl dX8_goes_81 ?_
      refine zs_aload_n hE 0 rfl rfl dX8_goes_82 ?_
      refine zs_callV hE (As := [va_rf r15]) (encA := encV) (ci := 40) rfl (fun y0 => met_X8_comesFrame K y0 r15) q2120 q142 q2117 q2119 (zq qs26) hd_X8_comesFrame (by decide) (by decide) rfl (by simp [zcat_rf, zcat_i, zcat_j, zcat_f, zcat_d]) (fun z hz => by cases hz) dX8_goes_83 (fun _ => ?_)
      show zS _ 86 _ [] _
      refine zs_sub [1] rfl ?_
      exact sm_X8_goes_J86 hE this
theorem hd_X8_goes : (yX8_goes).cls ≠ "java/lang/invoke/MethodHandle" ∧ (yX8_goes).cls ≠ "java/lang/invoke/VarHandle" ∧ (parseMethodDescriptor (yX8_goes).desc).map (fun d => d.parameters.length) = some 0 := by decide +kernel
theorem met_X8_goes (K : ZK) (this : Nat) : zMeth K yX8_goes (zws yX8_goes cX8_goes 2 none) 8 253 [.ref this] encV (s_X8_goes K this) :=
  fun l G hl hK => zmet_of hl hK (by decide +kernel) rfl rfl (by simp [zsl_nil, zsl_rf, zsl_r, zsl_i, zsl_j, zsl_f, zsl_d]) (fun x hE => by simp only [zla_nil, zla_rf, zla_r, zla_i, zla_j, zla_f, zla_d, Nat.reduceAdd]; exact sm_X8_goes hE this)
theorem sm_X2_goesBy {x : ZX Unit} {K : ZK} (hE : zE x K cX2_goesBy RX2 "goesBy" 1 9 274 encV none []) (this : Nat) : zS x 0 [(0, va_rf (some this))] [] (s_X2_goesBy K this) := by
  unfold s_X2_goesBy
  refine zs_new hE (ci := 40) (fs := [.null]) rfl in_X8 tyX8 tyX8_ok q2065 q2066 q142 (fun j hj => by rcases (show j = 0 by omega) with rfl; rfl) dX2_goesBy_0 (fun q1 => ?_)
  refine zs_dup hE (zcat_rf _) dX2_goesBy_3 ?_
  refine zs_aload_n hE 0 rfl rfl dX2_goesBy_4 ?_
  refine zs_callIN hE (As := [va_rf (some this)]) (encA := encV) (met_X8_init K q1 (some this)) q2069 q142 (zn q2067 rfl) q2068 rfl hd_X8_init (by decide) (by decide) rfl (by simp [zcat_rf, zcat_i, zcat_j, zcat_f, zcat_d]) (fun z hz => by cases hz) dX2_goesBy_5 (fun _ => ?_)
  show zS _ 8 _ [va_rf (some q1)] _
  refine zs_callV hE (As := []) (encA := encV) (ci := 40) rfl (fun y0 => met_X8_goes K y0) q2078 q142 q2075 q2076 (zq q2077) hd_X8_goes (by decide) (by decide) rfl (by simp [zcat_rf, zcat_i, zcat_j, zcat_f, zcat_d]) (fun z hz => by cases hz) dX2_goesBy_8 (fun _ => ?_)
  show zS _ 11 _ [] _
  exact zs_vret hE dX2_goesBy_11
theorem hd_X2_goesBy : (yX2_goesBy).cls ≠ "java/lang/invoke/MethodHandle" ∧ (yX2_goesBy).cls ≠ "java/lang/invoke/VarHandle" ∧ (parseMethodDescriptor (yX2_goesBy).desc).map (fun d => d.parameters.length) = some 0 := by decide +kernel
theorem met_X2_goesBy (K : ZK) (this : Nat) : zMeth K yX2_goesBy (zws yX2_goesBy cX2_goesBy 1 none) 9 274 [.ref this] encV (s_X2_goesBy K this) :=
  fun l G hl hK => zmet_of hl hK (by decide +kernel) rfl rfl (by simp [zsl_nil, zsl_rf, zsl_r, zsl_i, zsl_j, zsl_f, zsl_d]) (fun x hE => by simp only [zla_nil, zla_rf, zla_r, zla_i, zla_j, zla_f, zla_d, Nat.reduceAdd]; exact sm_X2_goesBy hE this)
theorem sm_X1_tick_B22 {x : ZX Int32} {K : ZK} (hE : zE x K cX1_tick RX1 "tick" 4 11 318 encI (Option.some Jvm.ClassFile.FieldType.int) []) (x0 : Nat) (x1 : Int32) (x2 : Int32) (self22 : Int32 → ZP Int32) (hs22 : ∀ v : Int32, zS x 22 [(0, va_rf (some x0)), (1, .int x1), (2, .int x2), (3, .int v)] [] (self22 v)) (x3 : Int32) : zS x 22 [(0, va_rf (some x0)), (1, .int x1), (2, .int x2), (3, .int x3)] [] (s_X1_tick_B22 K x0 x1 x2 self22 x3) := by
  unfold s_X1_tick_B22
  refine zs_iload_n hE 3 rfl rfl dX1_tick_22 ?_
  refine zs_iload_n hE 1 rfl rfl dX1_tick_23 ?_
  refine zs_icmp_ge hE 40 (by decide) dX1_tick_24 ?_ ?_
  · refine zs_aload_n hE 0 rfl rfl dX1_tick_40 ?_
    refine zs_getR hE (ci := 24) (k := 0) rfl (by decide) in_X1 (Or.inl q391) (Or.inl rfl) dX1_tick_41 (fun v3 => ?_)
    refine zs_getI hE (ci := 34) (k := 11) rfl (by decide) in_X2 (Or.inr ⟨_, zn q249 rfl⟩) (Or.inl rfl) dX1_tick_44 (fun v4 => ?_)
    refine zs_iload_n hE 2 rfl rfl dX1_tick_47 ?_
    refine zs_isub hE dX1_tick_48 ?_
    exact zs_iret hE dX1_tick_49
  · refine zs_aload_n hE 0 rfl rfl dX1_tick_27 ?_
    refine zs_getR hE (ci := 24) (k := 0) rfl (by decide) in_X1 (Or.inl q391) (Or.inl rfl) dX1_tick_28 (fun v5 => ?_)
    refine zs_callV hE (As := []) (encA := encV) (ci := 34) rfl (fun y0 => met_X2_goesBy K y0) q2064 q96 q2061 q2062 (zq q2063) hd_X2_goesBy (by decide) (by decide) rfl (by simp [zcat_rf, zcat_i, zcat_j, zcat_f, zcat_d]) (fun z hz => by cases hz) dX1_tick_31 (fun _ => ?_)
    show zS _ 34 _ [] _
    refine zs_iinc hE 3 (v := (1 : Int32)) rfl (by decide) (by decide) (rfl) (lv' := [(0, va_rf (some x0)), (1, .int x1), (2, .int x2)]) rfl dX1_tick_34 ?_
    refine zs_goto hE 22 (by decide) dX1_tick_37 ?_
    refine zs_sub [1, 2, 3, 0] rfl ?_
    exact hs22 (x3 + (1 : Int32))
theorem sm_X1_tick_L22 {x : ZX Int32} {K : ZK} (hE : zE x K cX1_tick RX1 "tick" 4 11 318 encI (Option.some Jvm.ClassFile.FieldType.int) []) (x0 : Nat) (x1 : Int32) (x2 : Int32) (v : Int32) : zS x 22 [(0, va_rf (some x0)), (1, .int x1), (2, .int x2), (3, .int v)] [] (s_X1_tick_L22 K x0 x1 x2 v) := by
  unfold s_X1_tick_L22
  exact zs_loop (lvf := fun v => [(0, va_rf (some x0)), (1, .int x1), (2, .int x2), (3, .int v)]) (fun self22 hs22 v => sm_X1_tick_B22 hE x0 x1 x2 self22 hs22 v) v
theorem sm_X1_tick {x : ZX Int32} {K : ZK} (hE : zE x K cX1_tick RX1 "tick" 4 11 318 encI (Option.some Jvm.ClassFile.FieldType.int) []) (this : Nat) (a1 : Int32) : zS x 0 [(0, va_rf (some this)), (1, .int a1)] [] (s_X1_tick K this a1) := by
  unfold s_X1_tick
  refine zs_aload_n hE 0 rfl rfl dX1_tick_0 ?_
  refine zs_iload_n hE 1 rfl rfl dX1_tick_1 ?_
  refine zs_iconst hE (v := (1 : Int32)) (by decide) dX1_tick_2 ?_
  refine zs_bipush hE (v := (40 : Int32)) (by decide) dX1_tick_3 ?_
  refine zs_callV hE (As := [.int a1, .int (1 : Int32), .int (40 : Int32)]) (encA := encV) (ci := 24) rfl (fun y0 => met_X1_inRange K y0 a1 (1 : Int32) (40 : Int32)) q1773 q95 q1770 q1772 (zq qs10) hd_X1_inRange (by decide) (by decide) rfl (by simp [zcat_rf, zcat_i, zcat_j, zcat_f, zcat_d]) (fun z hz => by cases hz) dX1_tick_5 (fun _ => ?_)
  show zS _ 8 _ [] _
  refine zs_aload_n hE 0 rfl rfl dX1_tick_8 ?_
  refine zs_callV hE (As := []) (encA := encV) (ci := 24) rfl (fun y0 => met_X1_change K y0) q1832 q95 q1829 q1831 (zq qs14) hd_X1_change (by decide) (by decide) rfl (by simp [zcat_rf, zcat_i, zcat_j, zcat_f, zcat_d]) (fun z hz => by cases hz) dX1_tick_9 (fun _ => ?_)
  show zS _ 12 _ [] _
  refine zs_aload_n hE 0 rfl rfl dX1_tick_12 ?_
  refine zs_getR hE (ci := 24) (k := 0) rfl (by decide) in_X1 (Or.inl q391) (Or.inl rfl) dX1_tick_13 (fun v1 => ?_)
  refine zs_getI hE (ci := 34) (k := 11) rfl (by decide) in_X2 (Or.inr ⟨_, zn q249 rfl⟩) (Or.inl rfl) dX1_tick_16 (fun v2 => ?_)
  refine zs_istore_n hE (i := 2) (q := 2) rfl (by decide) (rfl) (lv' := [(0, va_rf (some this)), (1, .int a1)]) rfl dX1_tick_19 ?_
  refine zs_iconst hE (v := (0 : Int32)) (by decide) dX1_tick_20 ?_
  refine zs_istore_n hE (i := 3) (q := 3) rfl (by decide) (rfl) (lv' := [(2, .int v2), (0, va_rf (some this)), (1, .int a1)]) rfl dX1_tick_21 ?_
  refine zs_sub [2, 3, 1, 0] rfl ?_
  exact sm_X1_tick_L22 hE this a1 v2 (0 : Int32)
theorem hd_X1_tick : (yX1_tick).cls ≠ "java/lang/invoke/MethodHandle" ∧ (yX1_tick).cls ≠ "java/lang/invoke/VarHandle" ∧ (parseMethodDescriptor (yX1_tick).desc).map (fun d => d.parameters.length) = some 1 := by decide +kernel
theorem met_X1_tick (K : ZK) (this : Nat) (a1 : Int32) : zMeth K yX1_tick (zws yX1_tick cX1_tick 4 (Option.some Jvm.ClassFile.FieldType.int)) 11 318 [.ref this, .int a1] encI (s_X1_tick K this a1) :=
  fun l G hl hK => zmet_of hl hK (by decide +kernel) rfl rfl (by simp [zsl_nil, zsl_rf, zsl_r, zsl_i, zsl_j, zsl_f, zsl_d]) (fun x hE => by simp only [zla_nil, zla_rf, zla_r, zla_i, zla_j, zla_f, zla_d, Nat.reduceAdd]; exact sm_X1_tick hE this a1)
theorem sm_X0_tick {x : ZX Int32} {K : ZK} (hE : zE x K cX0_tick RX0 "tick" 4 12 341 encI (Option.some Jvm.ClassFile.FieldType.int) (tableOf [((0 : Nat), (9 : Nat), (12 : Nat), (13 : Nat))])) (a1 : Option Nat) (a2 : Int32) (a3 : Option Nat) : zS x 0 [(0, va_rf a1), (1, .int a2), (2, va_rf a3)] [] (s_X0_tick K a1 a2 a3) := by
  unfold s_X0_tick
  refine zs_aload_n hE 2 rfl rfl dX0_tick_0 ?_
  refine zs_iconst hE (v := (0 : Int32)) (by decide) dX0_tick_1 ?_
  refine zs_aload_n hE 0 rfl rfl dX0_tick_2 ?_
  refine zs_iload_n hE 1 rfl rfl dX0_tick_3 ?_
  refine zs_callVT hE (As := [.int a2]) (encA := encI) (ci := 24) rfl (fun y0 => met_X1_tick K y0 a2) q2060 q95 q2057 q2058 (zq q2059) hd_X1_tick (by decide) (by decide) rfl (by simp [zcat_rf, zcat_i, zcat_j, zcat_f, zcat_d]) (zhl_cons (zhnd (tableOf []) (tableOf []) ⟨0, 9, 12, 13⟩ rfl (fun w hw => by cases hw) (by decide) (by decide) q1765 (zn q1802 rfl) (fun q1 => ?_)) zhl_nil) dX0_tick_4 (fun r2 => ?_)
  · have hE := zE_q q1 0 hE
    have hq := zqin_q (x := x) q1 0
    refine zs_astore_n hE (i := 3) (q := 3) rfl (by decide) (zcat_rf a3) (lv' := [(0, va_rf a1), (1, .int a2), (2, va_rf a3)]) rfl dX0_tick_12 ?_
    refine zs_iconst hE (v := (1 : Int32)) (by decide) dX0_tick_13 ?_
    exact zs_iret hE dX0_tick_14
  · show zS _ 7 _ [.int r2, .int (0 : Int32), va_rf a3] _
    refine zs_i2l hE dX0_tick_7 ?_
    refine zs_astJ hE dX0_tick_8 ?_
    refine zs_goto hE 15 (by decide) dX0_tick_9 ?_
    refine zs_iconst hE (v := (0 : Int32)) (by decide) dX0_tick_15 ?_
    exact zs_iret hE dX0_tick_16
theorem hd_X0_tick : (yX0_tick).cls ≠ "java/lang/invoke/MethodHandle" ∧ (yX0_tick).cls ≠ "java/lang/invoke/VarHandle" ∧ (parseMethodDescriptor (yX0_tick).desc).map (fun d => d.parameters.length) = some 3 := by decide +kernel
theorem met_X0_tick (K : ZK) (a1 : Option Nat) (a2 : Int32) (a3 : Option Nat) : zMeth K yX0_tick (zwsW yX0_tick cX0_tick 4 (Option.some Jvm.ClassFile.FieldType.int) [((0 : Nat), (9 : Nat), (12 : Nat), (13 : Nat))]) 12 341 [va_rf a1, .int a2, va_rf a3] encI (s_X0_tick K a1 a2 a3) :=
  fun l G hl hK => zmet_ofH hl hK (by decide +kernel) rfl rfl (by simp [zsl_nil, zsl_rf, zsl_r, zsl_i, zsl_j, zsl_f, zsl_d]) (fun x hE => by simp only [zla_nil, zla_rf, zla_r, zla_i, zla_j, zla_f, zla_d, Nat.reduceAdd]; exact sm_X0_tick hE a1 a2 a3)
theorem sm_X1_check {x : ZX Unit} {K : ZK} (hE : zE x K cX1_check RX1 "check" 1 6 120 encV none []) (a1 : Int32) : zS x 0 [(0, .int a1)] [] (s_X1_check K a1) := by
  unfold s_X1_check
  refine zs_iload_n hE 0 rfl rfl dX1_check_0 ?_
  refine zs_if_ne hE 12 (by decide) dX1_check_1 ?_ ?_
  · exact zs_throw hE (ik := 57) (ic := 59) (ci := 1) (by decide) (by decide +kernel) q2141 q141 zth_1 zthg_1 (by decide) (by decide) (fun z hz => by cases hz) dX1_check_4 dX1_check_7 dX1_check_8 dX1_check_11
  · exact zs_vret hE dX1_check_12
theorem hd_X1_check : (yX1_check).cls ≠ "java/lang/invoke/MethodHandle" ∧ (yX1_check).cls ≠ "java/lang/invoke/VarHandle" ∧ (parseMethodDescriptor (yX1_check).desc).map (fun d => d.parameters.length) = some 1 := by decide +kernel
theorem met_X1_check (K : ZK) (a1 : Int32) : zMeth K yX1_check (zws yX1_check cX1_check 1 none) 6 120 [.int a1] encV (s_X1_check K a1) :=
  fun l G hl hK => zmet_of hl hK (by decide +kernel) rfl rfl (by simp [zsl_nil, zsl_rf, zsl_r, zsl_i, zsl_j, zsl_f, zsl_d]) (fun x hE => by simp only [zla_nil, zla_rf, zla_r, zla_i, zla_j, zla_f, zla_d, Nat.reduceAdd]; exact sm_X1_check hE a1)
theorem sm_X1_of {x : ZX Int32} {K : ZK} (hE : zE x K cX1_of RX1 "of" 1 1 100 encI (Option.some Jvm.ClassFile.FieldType.int) []) (a1 : Int32) : zS x 0 [(0, .int a1)] [] (s_X1_of K a1) := by
  unfold s_X1_of
  refine zs_iload_n hE 0 rfl rfl dX1_of_0 ?_
  refine zs_if_eq hE 8 (by decide) dX1_of_1 ?_ ?_
  · refine zs_iconst hE (v := (0 : Int32)) (by decide) dX1_of_8 ?_
    exact zs_iret hE dX1_of_9
  · refine zs_iconst hE (v := (1 : Int32)) (by decide) dX1_of_4 ?_
    refine zs_goto hE 9 (by decide) dX1_of_5 ?_
    exact zs_iret hE dX1_of_9
theorem hd_X1_of : (yX1_of).cls ≠ "java/lang/invoke/MethodHandle" ∧ (yX1_of).cls ≠ "java/lang/invoke/VarHandle" ∧ (parseMethodDescriptor (yX1_of).desc).map (fun d => d.parameters.length) = some 1 := by decide +kernel
theorem met_X1_of (K : ZK) (a1 : Int32) : zMeth K yX1_of (zws yX1_of cX1_of 1 (Option.some Jvm.ClassFile.FieldType.int)) 1 100 [.int a1] encI (s_X1_of K a1) :=
  fun l G hl hK => zmet_of hl hK (by decide +kernel) rfl rfl (by simp [zsl_nil, zsl_rf, zsl_r, zsl_i, zsl_j, zsl_f, zsl_d]) (fun x hE => by simp only [zla_nil, zla_rf, zla_r, zla_i, zla_j, zla_f, zla_d, Nat.reduceAdd]; exact sm_X1_of hE a1)
theorem sm_X1_onRingOf {x : ZX Int32} {K : ZK} (hE : zE x K cX1_onRingOf RX1 "onRingOf" 2 2 120 encI (Option.some Jvm.ClassFile.FieldType.int) []) (a1 : Option Nat) (a2 : Int32) : zS x 0 [(0, va_rf a1), (1, .int a2)] [] (s_X1_onRingOf K a1 a2) := by
  unfold s_X1_onRingOf
  refine zs_iload_n hE 1 rfl rfl dX1_onRingOf_0 ?_
  refine zs_if_ne hE 9 (by decide) dX1_onRingOf_1 ?_ ?_
  · refine zs_aload_n hE 0 rfl rfl dX1_onRingOf_4 ?_
    refine zs_getI hE (ci := 34) (k := 1) rfl (by decide) in_X2 (Or.inr ⟨_, zn q221 rfl⟩) (Or.inl rfl) dX1_onRingOf_5 (fun v1 => ?_)
    exact zs_iret hE dX1_onRingOf_8
  · refine zs_iload_n hE 1 rfl rfl dX1_onRingOf_9 ?_
    refine zs_iconst hE (v := (1 : Int32)) (by decide) dX1_onRingOf_10 ?_
    refine zs_icmp_ne hE 19 (by decide) dX1_onRingOf_11 ?_ ?_
    · refine zs_aload_n hE 0 rfl rfl dX1_onRingOf_14 ?_
      refine zs_getI hE (ci := 34) (k := 2) rfl (by decide) in_X2 (Or.inr ⟨_, zn q224 rfl⟩) (Or.inl rfl) dX1_onRingOf_15 (fun v2 => ?_)
      exact zs_iret hE dX1_onRingOf_18
    · refine zs_aload_n hE 0 rfl rfl dX1_onRingOf_19 ?_
      refine zs_getI hE (ci := 34) (k := 1) rfl (by decide) in_X2 (Or.inr ⟨_, zn q221 rfl⟩) (Or.inl rfl) dX1_onRingOf_20 (fun v3 => ?_)
      refine zs_iconst hE (v := (1 : Int32)) (by decide) dX1_onRingOf_23 ?_
      refine zs_icmp_ne hE 41 (by decide) dX1_onRingOf_24 ?_ ?_
      · refine zs_iload_n hE 1 rfl rfl dX1_onRingOf_27 ?_
        refine zs_iconst hE (v := (2 : Int32)) (by decide) dX1_onRingOf_28 ?_
        refine zs_icmp_ne hE 39 (by decide) dX1_onRingOf_29 ?_ ?_
        · refine zs_aload_n hE 0 rfl rfl dX1_onRingOf_32 ?_
          refine zs_getI hE (ci := 34) (k := 3) rfl (by decide) in_X2 (Or.inr ⟨_, zn q227 rfl⟩) (Or.inl rfl) dX1_onRingOf_33 (fun v4 => ?_)
          refine zs_goto hE 40 (by decide) dX1_onRingOf_36 ?_
          exact zs_iret hE dX1_onRingOf_40
        · refine zs_iconst hE (v := (-1 : Int32)) (by decide) dX1_onRingOf_39 ?_
          exact zs_iret hE dX1_onRingOf_40
      · refine zs_aload_n hE 0 rfl rfl dX1_onRingOf_41 ?_
        refine zs_getI hE (ci := 34) (k := 1) rfl (by decide) in_X2 (Or.inr ⟨_, zn q221 rfl⟩) (Or.inl rfl) dX1_onRingOf_42 (fun v5 => ?_)
        refine zs_if_ne hE 50 (by decide) dX1_onRingOf_45 ?_ ?_
        · refine zs_iconst hE (v := (-1 : Int32)) (by decide) dX1_onRingOf_48 ?_
          exact zs_iret hE dX1_onRingOf_49
        · refine zs_iload_n hE 1 rfl rfl dX1_onRingOf_50 ?_
          refine zs_tsw hE (offl := [29, 40, 48, 56]) rfl (by decide) dX1_onRingOf_51 (tgt := 118) (by decide) ⟨⟨by decide, 80, by decide, ?_⟩, ⟨by decide, 91, by decide, ?_⟩, ⟨by decide, 99, by decide, ?_⟩, ⟨by decide, 107, by decide, ?_⟩, trivial⟩ ?_
          · refine zs_aload_n hE 0 rfl rfl dX1_onRingOf_80 ?_
            refine zs_getR hE (ci := 34) (k := 5) rfl (by decide) in_X2 (Or.inr ⟨_, zn q232 rfl⟩) (Or.inl rfl) dX1_onRingOf_81 (fun v6 => ?_)
            refine zs_getR hE (ci := 38) (k := 0) rfl (by decide) in_X6 (Or.inr ⟨_, zn q1739 rfl⟩) (Or.inl rfl) dX1_onRingOf_84 (fun v7 => ?_)
            refine zs_getI hE (ci := 39) (k := 3) rfl (by decide) in_X7 (Or.inr ⟨_, zn q1941 rfl⟩) (Or.inl rfl) dX1_onRingOf_87 (fun v8 => ?_)
            exact zs_iret hE dX1_onRingOf_90
          · refine zs_aload_n hE 0 rfl rfl dX1_onRingOf_91 ?_
            refine zs_getR hE (ci := 34) (k := 5) rfl (by decide) in_X2 (Or.inr ⟨_, zn q232 rfl⟩) (Or.inl rfl) dX1_onRingOf_92 (fun v9 => ?_)
            refine zs_getI hE (ci := 38) (k := 2) rfl (by decide) in_X6 (Or.inr ⟨_, zn q1744 rfl⟩) (Or.inl rfl) dX1_onRingOf_95 (fun v10 => ?_)
            exact zs_iret hE dX1_onRingOf_98
          · refine zs_aload_n hE 0 rfl rfl dX1_onRingOf_99 ?_
            refine zs_getR hE (ci := 34) (k := 5) rfl (by decide) in_X2 (Or.inr ⟨_, zn q232 rfl⟩) (Or.inl rfl) dX1_onRingOf_100 (fun v11 => ?_)
            refine zs_getI hE (ci := 38) (k := 1) rfl (by decide) in_X6 (Or.inr ⟨_, zn q1741 rfl⟩) (Or.inl rfl) dX1_onRingOf_103 (fun v12 => ?_)
            exact zs_iret hE dX1_onRingOf_106
          · refine zs_aload_n hE 0 rfl rfl dX1_onRingOf_107 ?_
            refine zs_getR hE (ci := 34) (k := 5) rfl (by decide) in_X2 (Or.inr ⟨_, zn q232 rfl⟩) (Or.inl rfl) dX1_onRingOf_108 (fun v13 => ?_)
            refine zs_getI hE (ci := 38) (k := 4) rfl (by decide) in_X6 (Or.inr ⟨_, zn q1750 rfl⟩) (Or.inl rfl) dX1_onRingOf_111 (fun v14 => ?_)
            refine zs_callS hE (As := [.int v14]) (encA := encI) (met_X1_of K v14) q1426 q95 q1424 q1425 hd_X1_of (by decide) (by decide) rfl (by simp [zcat_rf, zcat_i, zcat_j, zcat_f, zcat_d]) (fun z hz => by cases hz) dX1_onRingOf_114 (fun r15 => ?_)
            show zS _ 117 _ [.int r15] _
            exact zs_iret hE dX1_onRingOf_117
          · refine zs_aload_n hE 0 rfl rfl dX1_onRingOf_118 ?_
            refine zs_getR hE (ci := 34) (k := 5) rfl (by decide) in_X2 (Or.inr ⟨_, zn q232 rfl⟩) (Or.inl rfl) dX1_onRingOf_119 (fun v16 => ?_)
            refine zs_getR hE (ci := 38) (k := 0) rfl (by decide) in_X6 (Or.inr ⟨_, zn q1739 rfl⟩) (Or.inl rfl) dX1_onRingOf_122 (fun v17 => ?_)
            refine zs_getI hE (ci := 39) (k := 0) rfl (by decide) in_X7 (Or.inr ⟨_, zn q1934 rfl⟩) (Or.inl rfl) dX1_onRingOf_125 (fun v18 => ?_)
            exact zs_iret hE dX1_onRingOf_128
theorem hd_X1_onRingOf : (yX1_onRingOf).cls ≠ "java/lang/invoke/MethodHandle" ∧ (yX1_onRingOf).cls ≠ "java/lang/invoke/VarHandle" ∧ (parseMethodDescriptor (yX1_onRingOf).desc).map (fun d => d.parameters.length) = some 2 := by decide +kernel
theorem met_X1_onRingOf (K : ZK) (a1 : Option Nat) (a2 : Int32) : zMeth K yX1_onRingOf (zws yX1_onRingOf cX1_onRingOf 2 (Option.some Jvm.ClassFile.FieldType.int)) 2 120 [va_rf a1, .int a2] encI (s_X1_onRingOf K a1 a2) :=
  fun l G hl hK => zmet_of hl hK (by decide +kernel) rfl rfl (by simp [zsl_nil, zsl_rf, zsl_r, zsl_i, zsl_j, zsl_f, zsl_d]) (fun x hE => by simp only [zla_nil, zla_rf, zla_r, zla_i, zla_j, zla_f, zla_d, Nat.reduceAdd]; exact sm_X1_onRingOf hE a1 a2)
theorem sm_X1_onRing {x : ZX Int32} {K : ZK} (hE : zE x K cX1_onRing RX1 "onRing" 2 7 141 encI (Option.some Jvm.ClassFile.FieldType.int) []) (this : Nat) (a1 : Int32) : zS x 0 [(0, va_rf (some this)), (1, .int a1)] [] (s_X1_onRing K this a1) := by
  unfold s_X1_onRing
  refine zs_iload_n hE 1 rfl rfl dX1_onRing_0 ?_
  refine zs_iconst hE (v := (0 : Int32)) (by decide) dX1_onRing_1 ?_
  refine zs_bipush hE (v := (6 : Int32)) (by decide) dX1_onRing_2 ?_
  refine zs_callS hE (As := [.int a1, .int (0 : Int32), .int (6 : Int32)]) (encA := encI) (met_X1_isBetween K a1 (0 : Int32) (6 : Int32)) q1776 q95 q1774 q1775 hd_X1_isBetween (by decide) (by decide) rfl (by simp [zcat_rf, zcat_i, zcat_j, zcat_f, zcat_d]) (fun z hz => by cases hz) dX1_onRing_4 (fun r1 => ?_)
  show zS _ 7 _ [.int r1] _
  refine zs_callS hE (As := [.int r1]) (encA := encV) (met_X1_check K r1) q2140 q95 q2138 q2139 hd_X1_check (by decide) (by decide) rfl (by simp [zcat_rf, zcat_i, zcat_j, zcat_f, zcat_d]) (fun z hz => by cases hz) dX1_onRing_7 (fun _ => ?_)
  show zS _ 10 _ [] _
  refine zs_aload_n hE 0 rfl rfl dX1_onRing_10 ?_
  refine zs_getR hE (ci := 24) (k := 0) rfl (by decide) in_X1 (Or.inl q391) (Or.inl rfl) dX1_onRing_11 (fun v2 => ?_)
  refine zs_iload_n hE 1 rfl rfl dX1_onRing_14 ?_
  refine zs_callS hE (As := [va_rf v2, .int a1]) (encA := encI) (met_X1_onRingOf K v2 a1) q1423 q95 q1421 q1422 hd_X1_onRingOf (by decide) (by decide) rfl (by simp [zcat_rf, zcat_i, zcat_j, zcat_f, zcat_d]) (fun z hz => by cases hz) dX1_onRing_15 (fun r3 => ?_)
  show zS _ 18 _ [.int r3] _
  exact zs_iret hE dX1_onRing_18
theorem hd_X1_onRing : (yX1_onRing).cls ≠ "java/lang/invoke/MethodHandle" ∧ (yX1_onRing).cls ≠ "java/lang/invoke/VarHandle" ∧ (parseMethodDescriptor (yX1_onRing).desc).map (fun d => d.parameters.length) = some 1 := by decide +kernel
theorem met_X1_onRing (K : ZK) (this : Nat) (a1 : Int32) : zMeth K yX1_onRing (zws yX1_onRing cX1_onRing 2 (Option.some Jvm.ClassFile.FieldType.int)) 7 141 [.ref this, .int a1] encI (s_X1_onRing K this a1) :=
  fun l G hl hK => zmet_of hl hK (by decide +kernel) rfl rfl (by simp [zsl_nil, zsl_rf, zsl_r, zsl_i, zsl_j, zsl_f, zsl_d]) (fun x hE => by simp only [zla_nil, zla_rf, zla_r, zla_i, zla_j, zla_f, zla_d, Nat.reduceAdd]; exact sm_X1_onRing hE this a1)
theorem sm_X0_onRing {x : ZX Int32} {K : ZK} (hE : zE x K cX0_onRing RX0 "onRing" 4 8 162 encI (Option.some Jvm.ClassFile.FieldType.int) (tableOf [((0 : Nat), (9 : Nat), (12 : Nat), (41 : Nat))])) (a1 : Option Nat) (a2 : Int32) (a3 : Option Nat) : zS x 0 [(0, va_rf a1), (1, .int a2), (2, va_rf a3)] [] (s_X0_onRing K a1 a2 a3) := by
  unfold s_X0_onRing
  refine zs_aload_n hE 2 rfl rfl dX0_onRing_0 ?_
  refine zs_iconst hE (v := (0 : Int32)) (by decide) dX0_onRing_1 ?_
  refine zs_aload_n hE 0 rfl rfl dX0_onRing_2 ?_
  refine zs_iload_n hE 1 rfl rfl dX0_onRing_3 ?_
  refine zs_callVT hE (As := [.int a2]) (encA := encI) (ci := 24) rfl (fun y0 => met_X1_onRing K y0 a2) q2137 q95 q2134 q2135 (zq q2136) hd_X1_onRing (by decide) (by decide) rfl (by simp [zcat_rf, zcat_i, zcat_j, zcat_f, zcat_d]) (zhl_cons (zhnd (tableOf []) (tableOf []) ⟨0, 9, 12, 41⟩ rfl (fun w hw => by cases hw) (by decide) (by decide) q2133 (zn q1287 rfl) (fun q1 => ?_)) zhl_nil) dX0_onRing_4 (fun r2 => ?_)
  · have hE := zE_q q1 1 hE
    have hq := zqin_q (x := x) q1 1
    refine zs_astore_n hE (i := 3) (q := 3) rfl (by decide) (zcat_rf a3) (lv' := [(0, va_rf a1), (1, .int a2), (2, va_rf a3)]) rfl dX0_onRing_12 ?_
    refine zs_iconst hE (v := (1 : Int32)) (by decide) dX0_onRing_13 ?_
    exact zs_iret hE dX0_onRing_14
  · show zS _ 7 _ [.int r2, .int (0 : Int32), va_rf a3] _
    refine zs_i2l hE dX0_onRing_7 ?_
    refine zs_astJ hE dX0_onRing_8 ?_
    refine zs_goto hE 15 (by decide) dX0_onRing_9 ?_
    refine zs_iconst hE (v := (0 : Int32)) (by decide) dX0_onRing_15 ?_
    exact zs_iret hE dX0_onRing_16
theorem hd_X0_onRing : (yX0_onRing).cls ≠ "java/lang/invoke/MethodHandle" ∧ (yX0_onRing).cls ≠ "java/lang/invoke/VarHandle" ∧ (parseMethodDescriptor (yX0_onRing).desc).map (fun d => d.parameters.length) = some 3 := by decide +kernel
theorem met_X0_onRing (K : ZK) (a1 : Option Nat) (a2 : Int32) (a3 : Option Nat) : zMeth K yX0_onRing (zwsW yX0_onRing cX0_onRing 4 (Option.some Jvm.ClassFile.FieldType.int) [((0 : Nat), (9 : Nat), (12 : Nat), (41 : Nat))]) 8 162 [va_rf a1, .int a2, va_rf a3] encI (s_X0_onRing K a1 a2 a3) :=
  fun l G hl hK => zmet_ofH hl hK (by decide +kernel) rfl rfl (by simp [zsl_nil, zsl_rf, zsl_r, zsl_i, zsl_j, zsl_f, zsl_d]) (fun x hE => by simp only [zla_nil, zla_rf, zla_r, zla_i, zla_j, zla_f, zla_d, Nat.reduceAdd]; exact sm_X0_onRing hE a1 a2 a3)
theorem sm_X1_checkElement {x : ZX Unit} {K : ZK} (hE : zE x K cX1_checkElement RX1 "checkElement" 1 6 120 encV none []) (a1 : Int32) : zS x 0 [(0, .int a1)] [] (s_X1_checkElement K a1) := by
  unfold s_X1_checkElement
  refine zs_iload_n hE 0 rfl rfl dX1_checkElement_0 ?_
  refine zs_if_ne hE 12 (by decide) dX1_checkElement_1 ?_ ?_
  · exact zs_throw hE (ik := 63) (ic := 65) (ci := 3) (by decide) (by decide +kernel) q2157 q130 zth_3 zthg_3 (by decide) (by decide) (fun z hz => by cases hz) dX1_checkElement_4 dX1_checkElement_7 dX1_checkElement_8 dX1_checkElement_11
  · exact zs_vret hE dX1_checkElement_12
theorem hd_X1_checkElement : (yX1_checkElement).cls ≠ "java/lang/invoke/MethodHandle" ∧ (yX1_checkElement).cls ≠ "java/lang/invoke/VarHandle" ∧ (parseMethodDescriptor (yX1_checkElement).desc).map (fun d => d.parameters.length) = some 1 := by decide +kernel
theorem met_X1_checkElement (K : ZK) (a1 : Int32) : zMeth K yX1_checkElement (zws yX1_checkElement cX1_checkElement 1 none) 6 120 [.int a1] encV (s_X1_checkElement K a1) :=
  fun l G hl hK => zmet_of hl hK (by decide +kernel) rfl rfl (by simp [zsl_nil, zsl_rf, zsl_r, zsl_i, zsl_j, zsl_f, zsl_d]) (fun x hE => by simp only [zla_nil, zla_rf, zla_r, zla_i, zla_j, zla_f, zla_d, Nat.reduceAdd]; exact sm_X1_checkElement hE a1)
