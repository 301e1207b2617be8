/-! SIM-LAYER, written by gen/dec.py -/
theorem sm_X1_longestWait_J106 {x : ZX Int32} {K : ZK} (hE : zE x K cX1_longestWait RX1 "longestWait" 6 7 164 encI (Option.some Jvm.ClassFile.FieldType.int) []) (x1 : Option Nat) (t0 : Int32) : zS x 106 [(1, va_rf x1)] [.int t0] (s_X1_longestWait_J106 K x1 t0) := by
  unfold s_X1_longestWait_J106
  refine zs_callS hE (As := [.int t0]) (encA := encV) (met_X1_checkElement K t0) q2156 q95 q2154 q2155 hd_X1_checkElement (by decide) (by decide) rfl (by simp [zcat_rf, zcat_i, zcat_j, zcat_f, zcat_d]) (fun z hz => by cases hz) dX1_longestWait_106 (fun _ => ?_)
  show zS _ 109 _ [] _
  refine zs_aload_n hE 0 rfl rfl dX1_longestWait_109 ?_
  refine zs_ifnonnull hE 117 (by decide) dX1_longestWait_110 ?_ ?_
  · refine zs_iconst hE (v := (0 : Int32)) (by decide) dX1_longestWait_113 ?_
    refine zs_goto hE 121 (by decide) dX1_longestWait_114 ?_
    exact zs_iret hE dX1_longestWait_121
  · refine zs_aload_n hE 0 rfl rfl dX1_longestWait_117 ?_
    refine zs_getI hE (ci := 39) (k := 0) rfl (by decide) in_X7 (Or.inr ⟨_, zn q1934 rfl⟩) (Or.inl rfl) dX1_longestWait_118 (fun v6 => ?_)
    exact zs_iret hE dX1_longestWait_121
theorem sm_X1_longestWait_J90 {x : ZX Int32} {K : ZK} (hE : zE x K cX1_longestWait RX1 "longestWait" 6 7 164 encI (Option.some Jvm.ClassFile.FieldType.int) []) (x2 : Option Nat) (x4 : Option Nat) (t0 : Option Nat) (self18 : (Option Nat) → ZP Int32) (self46 : (Option Nat) → ZP Int32) (hs18 : ∀ v : Option Nat, zS x 18 [(1, va_rf v), (2, va_rf x2)] [] (self18 v)) (hs46 : ∀ v : Option Nat, zS x 46 [(1, va_rf v), (2, va_rf x2), (4, va_rf x4)] [] (self46 v)) : zS x 90 [(2, va_rf x2), (4, va_rf x4)] [va_rf t0] (s_X1_longestWait_J90 K x2 x4 t0 self18 self46) := by
  unfold s_X1_longestWait_J90
  refine zs_astore_n hE (i := 1) (q := 1) rfl (by decide) (trivial) (lv' := [(2, va_rf x2), (4, va_rf x4)]) rfl dX1_longestWait_90 ?_
  refine zs_goto hE 46 (by decide) dX1_longestWait_91 ?_
  exact hs46 t0
theorem sm_X1_longestWait_B46 {x : ZX Int32} {K : ZK} (hE : zE x K cX1_longestWait RX1 "longestWait" 6 7 164 encI (Option.some Jvm.ClassFile.FieldType.int) []) (x2 : Option Nat) (x4 : Option Nat) (self18 : (Option Nat) → ZP Int32) (self46 : (Option Nat) → ZP Int32) (hs18 : ∀ v : Option Nat, zS x 18 [(1, va_rf v), (2, va_rf x2)] [] (self18 v)) (hs46 : ∀ v : Option Nat, zS x 46 [(1, va_rf v), (2, va_rf x2), (4, va_rf x4)] [] (self46 v)) (x1 : Option Nat) : zS x 46 [(1, va_rf x1), (2, va_rf x2), (4, va_rf x4)] [] (s_X1_longestWait_B46 K x2 x4 self18 self46 x1) := by
  unfold s_X1_longestWait_B46
  refine zs_aload hE 2 rfl dX1_longestWait_46 ?_
  refine zs_callF hE (xx := ⟨"java/util/Iterator", "hasNext", "()Z"⟩) (As := []) (encA := encI) (ci := 5) rfl (fun y0 => met_J23_hasNext K y0) q869 q124 q1389 (List.mem_of_getElem? (i := 3) rfl) q867 q865 hdx_h2 (by decide) (by decide) rfl (by simp [zcat_rf, zcat_i, zcat_j, zcat_f, zcat_d]) (fun z hz => by cases hz) dX1_longestWait_48 (fun r10 => ?_)
  show zS _ 53 _ [.int r10] _
  refine zs_if_eq hE 94 (by decide) dX1_longestWait_53 ?_ ?_
  · refine zs_goto hE 18 (by decide) dX1_longestWait_94 ?_
    refine zs_sub [0, 1] rfl ?_
    exact hs18 x1
  · refine zs_aload hE 2 rfl dX1_longestWait_56 ?_
    refine zs_callF hE (xx := ⟨"java/util/Iterator", "next", "()Ljava/lang/Object;"⟩) (As := []) (encA := encR) (ci := 5) rfl (fun y0 => met_J23_next K y0) q1045 q124 q1391 (List.mem_of_getElem? (i := 4) rfl) q1043 q1041 hdx_h4 (by decide) (by decide) rfl (by simp [zcat_rf, zcat_i, zcat_j, zcat_f, zcat_d]) (fun z hz => by cases hz) dX1_longestWait_58 (fun r11 => ?_)
    show zS _ 63 _ [va_rf r11] _
    refine zs_cast hE q1925 (zc1 rfl (Or.inl rfl)) dX1_longestWait_63 ?_
    refine zs_astore hE (i := 5) (by decide) (zcat_rf x4) (lv' := [(1, va_rf x1), (2, va_rf x2), (4, va_rf x4)]) rfl dX1_longestWait_66 ?_
    refine zs_aload_n hE 1 rfl rfl dX1_longestWait_68 ?_
    refine zs_ifnull hE 84 (by decide) dX1_longestWait_69 ?_ ?_
    · refine zs_aload hE 0 rfl dX1_longestWait_84 ?_
      refine zs_goto hE 90 (by decide) dX1_longestWait_86 ?_
      refine zs_sub [2, 3] rfl ?_
      exact sm_X1_longestWait_J90 hE x2 x4 r11 self18 self46 hs18 hs46
    · refine zs_aload hE 0 rfl dX1_longestWait_72 ?_
      refine zs_getI hE (ci := 39) (k := 0) rfl (by decide) in_X7 (Or.inr ⟨_, zn q1934 rfl⟩) (Or.inl rfl) dX1_longestWait_74 (fun v12 => ?_)
      refine zs_aload_n hE 1 rfl rfl dX1_longestWait_77 ?_
      refine zs_getI hE (ci := 39) (k := 0) rfl (by decide) in_X7 (Or.inr ⟨_, zn q1934 rfl⟩) (Or.inl rfl) dX1_longestWait_78 (fun v13 => ?_)
      refine zs_icmp_ge hE 89 (by decide) dX1_longestWait_81 ?_ ?_
      · refine zs_aload_n hE 1 rfl rfl dX1_longestWait_89 ?_
        refine zs_sub [2, 3] rfl ?_
        exact sm_X1_longestWait_J90 hE x2 x4 x1 self18 self46 hs18 hs46
      · refine zs_aload hE 0 rfl dX1_longestWait_84 ?_
        refine zs_goto hE 90 (by decide) dX1_longestWait_86 ?_
        refine zs_sub [2, 3] rfl ?_
        exact sm_X1_longestWait_J90 hE x2 x4 r11 self18 self46 hs18 hs46
theorem sm_X1_longestWait_L46 {x : ZX Int32} {K : ZK} (hE : zE x K cX1_longestWait RX1 "longestWait" 6 7 164 encI (Option.some Jvm.ClassFile.FieldType.int) []) (x2 : Option Nat) (x4 : Option Nat) (self18 : (Option Nat) → ZP Int32) (hs18 : ∀ v : Option Nat, zS x 18 [(1, va_rf v), (2, va_rf x2)] [] (self18 v)) (v : Option Nat) : zS x 46 [(1, va_rf v), (2, va_rf x2), (4, va_rf x4)] [] (s_X1_longestWait_L46 K x2 x4 self18 v) := by
  unfold s_X1_longestWait_L46
  exact zs_loop (lvf := fun v => [(1, va_rf v), (2, va_rf x2), (4, va_rf x4)]) (fun self46 hs46 v => sm_X1_longestWait_B46 hE x2 x4 self18 self46 hs18 hs46 v) v
theorem sm_X1_longestWait_B18 {x : ZX Int32} {K : ZK} (hE : zE x K cX1_longestWait RX1 "longestWait" 6 7 164 encI (Option.some Jvm.ClassFile.FieldType.int) []) (x2 : Option Nat) (self18 : (Option Nat) → ZP Int32) (hs18 : ∀ v : Option Nat, zS x 18 [(1, va_rf v), (2, va_rf x2)] [] (self18 v)) (x1 : Option Nat) : zS x 18 [(1, va_rf x1), (2, va_rf x2)] [] (s_X1_longestWait_B18 K x2 self18 x1) := by
  unfold s_X1_longestWait_B18
  refine zs_aload_n hE 1 rfl rfl dX1_longestWait_18 ?_
  refine zs_callF hE (xx := ⟨"java/util/Iterator", "hasNext", "()Z"⟩) (As := []) (encA := encI) (ci := 8) rfl (fun y0 => met_J26_hasNext__J28 K y0) q875 q127 q1389 (List.mem_of_getElem? (i := 1) rfl) q873 q883 hdx_h2 (by decide) (by decide) rfl (by simp [zcat_rf, zcat_i, zcat_j, zcat_f, zcat_d]) (fun z hz => by cases hz) dX1_longestWait_19 (fun r5 => ?_)
  show zS _ 24 _ [.int r5] _
  refine zs_if_eq hE 97 (by decide) dX1_longestWait_24 ?_ ?_
  · refine zs_aload_n hE 0 rfl rfl dX1_longestWait_97 ?_
    refine zs_ifnull hE 105 (by decide) dX1_longestWait_98 ?_ ?_
    · refine zs_iconst hE (v := (0 : Int32)) (by decide) dX1_longestWait_105 ?_
      refine zs_sub [0] rfl ?_
      exact sm_X1_longestWait_J106 hE x1 (0 : Int32)
    · refine zs_iconst hE (v := (1 : Int32)) (by decide) dX1_longestWait_101 ?_
      refine zs_goto hE 106 (by decide) dX1_longestWait_102 ?_
      refine zs_sub [0] rfl ?_
      exact sm_X1_longestWait_J106 hE x1 (1 : Int32)
  · refine zs_aload_n hE 1 rfl rfl dX1_longestWait_27 ?_
    refine zs_callF hE (xx := ⟨"java/util/Iterator", "next", "()Ljava/lang/Object;"⟩) (As := []) (encA := encR) (ci := 8) rfl (fun y0 => met_J28_next K y0) q1094 q129 q1391 (List.mem_of_getElem? (i := 2) rfl) q1092 q1090 hdx_h4 (by decide) (by decide) rfl (by simp [zcat_rf, zcat_i, zcat_j, zcat_f, zcat_d]) (fun z hz => by cases hz) dX1_longestWait_28 (fun r7 => ?_)
    show zS _ 33 _ [va_rf r7] _
    refine zs_cast hE q1392 (zc1 rfl (Or.inl rfl)) dX1_longestWait_33 ?_
    refine zs_astore_n hE (i := 3) (q := 3) rfl (by decide) (zcat_rf x2) (lv' := [(1, va_rf x1), (2, va_rf x2)]) rfl dX1_longestWait_36 ?_
    refine zs_aload_n hE 0 rfl rfl dX1_longestWait_37 ?_
    refine zs_getR hE (ci := 37) (k := 1) rfl (by decide) in_X5 (Or.inr ⟨_, zn q1555 rfl⟩) (Or.inl rfl) dX1_longestWait_38 (fun v8 => ?_)
    refine zs_callV hE (As := []) (encA := encR) (ci := 11) rfl (fun y0 => met_J31_iterator K y0) q479 q133 q2199 q477 (zq q3299) hd_J31_iterator (by decide) (by decide) rfl (by simp [zcat_rf, zcat_i, zcat_j, zcat_f, zcat_d]) (fun z hz => by cases hz) dX1_longestWait_41 (fun r9 => ?_)
    show zS _ 44 _ [va_rf r9] _
    refine zs_astore hE (i := 4) (by decide) (zcat_rf r7) (lv' := [(3, va_rf r7), (1, va_rf x1), (2, va_rf x2)]) rfl dX1_longestWait_44 ?_
    refine zs_sub [2, 3, 0] rfl ?_
    exact sm_X1_longestWait_L46 hE x2 r9 self18 hs18 x1
theorem sm_X1_longestWait_L18 {x : ZX Int32} {K : ZK} (hE : zE x K cX1_longestWait RX1 "longestWait" 6 7 164 encI (Option.some Jvm.ClassFile.FieldType.int) []) (x2 : Option Nat) (v : Option Nat) : zS x 18 [(1, va_rf v), (2, va_rf x2)] [] (s_X1_longestWait_L18 K x2 v) := by
  unfold s_X1_longestWait_L18
  exact zs_loop (lvf := fun v => [(1, va_rf v), (2, va_rf x2)]) (fun self18 hs18 v => sm_X1_longestWait_B18 hE x2 self18 hs18 v) v
theorem sm_X1_longestWait {x : ZX Int32} {K : ZK} (hE : zE x K cX1_longestWait RX1 "longestWait" 6 7 164 encI (Option.some Jvm.ClassFile.FieldType.int) []) (this : Nat) : zS x 0 [(0, va_rf (some this))] [] (s_X1_longestWait K this) := by
  unfold s_X1_longestWait
  refine zs_null hE dX1_longestWait_0 ?_
  refine zs_astore_n hE (i := 1) (q := 1) rfl (by decide) (zcat_rf (some this)) (lv' := [(0, va_rf (some this))]) rfl dX1_longestWait_1 ?_
  refine zs_aload_n hE 1 rfl rfl dX1_longestWait_2 ?_
  refine zs_getR hE (ci := 24) (k := 0) rfl (by decide) in_X1 (Or.inl q391) (Or.inl rfl) dX1_longestWait_3 (fun v1 => ?_)
  refine zs_getR hE (ci := 34) (k := 0) rfl (by decide) in_X2 (Or.inr ⟨_, zn q218 rfl⟩) (Or.inl rfl) dX1_longestWait_6 (fun v2 => ?_)
  refine zs_callV hE (As := []) (encA := encR) (ci := 0) rfl (fun y0 => met_J1_values K y0) q427 q98 q1385 q425 (zq q426) hd_J1_values (by decide) (by decide) rfl (by simp [zcat_rf, zcat_i, zcat_j, zcat_f, zcat_d]) (fun z hz => by cases hz) dX1_longestWait_9 (fun r3 => ?_)
  show zS _ 12 _ [va_rf r3] _
  refine zs_callF hE (xx := ⟨"java/util/Collection", "iterator", "()Ljava/util/Iterator;"⟩) (As := []) (encA := encR) (ci := 3) rfl (fun y0 => met_J21_iterator K y0) q831 q122 q1387 (List.mem_of_getElem? (i := 0) rfl) q829 q827 hdx_h1 (by decide) (by decide) rfl (by simp [zcat_rf, zcat_i, zcat_j, zcat_f, zcat_d]) (fun z hz => by cases hz) dX1_longestWait_12 (fun r4 => ?_)
  show zS _ 17 _ [va_rf r4] _
  refine zs_astore_n hE (i := 2) (q := 2) rfl (by decide) (zcat_rf none) (lv' := [(1, va_rf none), (0, va_rf (some this))]) rfl dX1_longestWait_17 ?_
  refine zs_sub [1, 0] rfl ?_
  exact sm_X1_longestWait_L18 hE r4 none
theorem hd_X1_longestWait : (yX1_longestWait).cls ≠ "java/lang/invoke/MethodHandle" ∧ (yX1_longestWait).cls ≠ "java/lang/invoke/VarHandle" ∧ (parseMethodDescriptor (yX1_longestWait).desc).map (fun d => d.parameters.length) = some 0 := by decide +kernel
theorem met_X1_longestWait (K : ZK) (this : Nat) : zMeth K yX1_longestWait (zws yX1_longestWait cX1_longestWait 6 (Option.some Jvm.ClassFile.FieldType.int)) 7 164 [.ref this] encI (s_X1_longestWait K this) :=
  fun l G hl hK => zmet_of hl hK (by decide +kernel) rfl rfl (by simp [zsl_nil, zsl_rf, zsl_r, zsl_i, zsl_j, zsl_f, zsl_d]) (fun x hE => by simp only [zla_nil, zla_rf, zla_r, zla_i, zla_j, zla_f, zla_d, Nat.reduceAdd]; exact sm_X1_longestWait hE this)
theorem sm_X0_longestWait {x : ZX Int32} {K : ZK} (hE : zE x K cX0_longestWait RX0 "longestWait" 3 8 189 encI (Option.some Jvm.ClassFile.FieldType.int) (tableOf [((0 : Nat), (8 : Nat), (11 : Nat), (46 : Nat))])) (a1 : Option Nat) (a2 : Option Nat) : zS x 0 [(0, va_rf a1), (1, va_rf a2)] [] (s_X0_longestWait K a1 a2) := by
  unfold s_X0_longestWait
  refine zs_aload_n hE 1 rfl rfl dX0_longestWait_0 ?_
  refine zs_iconst hE (v := (0 : Int32)) (by decide) dX0_longestWait_1 ?_
  refine zs_aload_n hE 0 rfl rfl dX0_longestWait_2 ?_
  refine zs_callVT hE (As := []) (encA := encI) (ci := 24) rfl (fun y0 => met_X1_longestWait K y0) q2430 q95 q2427 q2428 (zq q2429) hd_X1_longestWait (by decide) (by decide) rfl (by simp [zcat_rf, zcat_i, zcat_j, zcat_f, zcat_d]) (zhl_cons (zhnd (tableOf []) (tableOf []) ⟨0, 8, 11, 46⟩ rfl (fun w hw => by cases hw) (by decide) (by decide) q2149 (zn q940 rfl) (fun q1 => ?_)) zhl_nil) dX0_longestWait_3 (fun r2 => ?_)
  · have hE := zE_q q1 3 hE
    have hq := zqin_q (x := x) q1 3
    refine zs_astore_n hE (i := 2) (q := 2) rfl (by decide) (zcat_rf a2) (lv' := [(0, va_rf a1), (1, va_rf a2)]) rfl dX0_longestWait_11 ?_
    refine zs_iconst hE (v := (1 : Int32)) (by decide) dX0_longestWait_12 ?_
    exact zs_iret hE dX0_longestWait_13
  · show zS _ 6 _ [.int r2, .int (0 : Int32), va_rf a2] _
    refine zs_i2l hE dX0_longestWait_6 ?_
    refine zs_astJ hE dX0_longestWait_7 ?_
    refine zs_goto hE 14 (by decide) dX0_longestWait_8 ?_
    refine zs_iconst hE (v := (0 : Int32)) (by decide) dX0_longestWait_14 ?_
    exact zs_iret hE dX0_longestWait_15
theorem hd_X0_longestWait : (yX0_longestWait).cls ≠ "java/lang/invoke/MethodHandle" ∧ (yX0_longestWait).cls ≠ "java/lang/invoke/VarHandle" ∧ (parseMethodDescriptor (yX0_longestWait).desc).map (fun d => d.parameters.length) = some 2 := by decide +kernel
theorem met_X0_longestWait (K : ZK) (a1 : Option Nat) (a2 : Option Nat) : zMeth K yX0_longestWait (zwsW yX0_longestWait cX0_longestWait 3 (Option.some Jvm.ClassFile.FieldType.int) [((0 : Nat), (8 : Nat), (11 : Nat), (46 : Nat))]) 8 189 [va_rf a1, va_rf a2] encI (s_X0_longestWait K a1 a2) :=
  fun l G hl hK => zmet_ofH hl hK (by decide +kernel) rfl rfl (by simp [zsl_nil, zsl_rf, zsl_r, zsl_i, zsl_j, zsl_f, zsl_d]) (fun x hE => by simp only [zla_nil, zla_rf, zla_r, zla_i, zla_j, zla_f, zla_d, Nat.reduceAdd]; exact sm_X0_longestWait hE a1 a2)
theorem sm_X1_greatest_J82 {x : ZX Int32} {K : ZK} (hE : zE x K cX1_greatest RX1 "greatest" 5 7 184 encI (Option.some Jvm.ClassFile.FieldType.int) []) (x1 : Int32) (t0 : Int32) : zS x 82 [(1, .int x1)] [.int t0] (s_X1_greatest_J82 K x1 t0) := by
  unfold s_X1_greatest_J82
  refine zs_callS hE (As := [.int t0]) (encA := encV) (met_X1_checkElement K t0) q2156 q95 q2154 q2155 hd_X1_checkElement (by decide) (by decide) rfl (by simp [zcat_rf, zcat_i, zcat_j, zcat_f, zcat_d]) (fun z hz => by cases hz) dX1_greatest_82 (fun _ => ?_)
  show zS _ 85 _ [] _
  refine zs_iload_n hE 0 rfl rfl dX1_greatest_85 ?_
  exact zs_iret hE dX1_greatest_86
theorem sm_X1_greatest_J58 {x : ZX Int32} {K : ZK} (hE : zE x K cX1_greatest RX1 "greatest" 5 7 184 encI (Option.some Jvm.ClassFile.FieldType.int) []) (x2 : Int32) (x3 : Option Nat) (x4 : Option Nat) (t0 : Int32) (self20 : (Int32 × Int32) → ZP Int32) (hs20 : ∀ v : Int32 × Int32, zS x 20 [(1, .int v.1), (2, .int v.2), (3, va_rf x3)] [] (self20 v)) : zS x 58 [(2, .int x2), (3, va_rf x3), (4, va_rf x4)] [.int t0] (s_X1_greatest_J58 K x2 x3 x4 t0 self20) := by
  unfold s_X1_greatest_J58
  refine zs_istore_n hE (i := 1) (q := 1) rfl (by decide) (trivial) (lv' := [(2, .int x2), (3, va_rf x3), (4, va_rf x4)]) rfl dX1_greatest_58 ?_
  refine zs_iload_n hE 1 rfl rfl dX1_greatest_59 ?_
  refine zs_aload hE 3 rfl dX1_greatest_60 ?_
  refine zs_callV hE (As := []) (encA := encI) (ci := 37) rfl (fun y0 => met_X5_rank K y0) q2106 q131 q2214 q2104 (zq q2105) hd_X5_rank (by decide) (by decide) rfl (by simp [zcat_rf, zcat_i, zcat_j, zcat_f, zcat_d]) (fun z hz => by cases hz) dX1_greatest_62 (fun r8 => ?_)
  show zS _ 65 _ [.int r8, .int x2] _
  refine zs_callS hE (As := [.int x2, .int r8]) (encA := encI) (met_J16_max K x2 r8) q1154 q116 q2438 q1153 hd_J16_max (by decide) (by decide) rfl (by simp [zcat_rf, zcat_i, zcat_j, zcat_f, zcat_d]) (fun z hz => by cases hz) dX1_greatest_65 (fun r9 => ?_)
  show zS _ 68 _ [.int r9] _
  refine zs_istore_n hE (i := 2) (q := 2) rfl (by decide) (rfl) (lv' := [(1, .int t0), (3, va_rf x3), (4, va_rf x4)]) rfl dX1_greatest_68 ?_
  refine zs_goto hE 20 (by decide) dX1_greatest_69 ?_
  refine zs_sub [1, 0, 2] rfl ?_
  exact hs20 (t0, r9)
theorem sm_X1_greatest_B20 {x : ZX Int32} {K : ZK} (hE : zE x K cX1_greatest RX1 "greatest" 5 7 184 encI (Option.some Jvm.ClassFile.FieldType.int) []) (x3 : Option Nat) (self20 : (Int32 × Int32) → ZP Int32) (hs20 : ∀ v : Int32 × Int32, zS x 20 [(1, .int v.1), (2, .int v.2), (3, va_rf x3)] [] (self20 v)) (x1 : Int32) (x2 : Int32) : zS x 20 [(1, .int x1), (2, .int x2), (3, va_rf x3)] [] (s_X1_greatest_B20 K x3 self20 x1 x2) := by
  unfold s_X1_greatest_B20
  refine zs_aload_n hE 2 rfl rfl dX1_greatest_20 ?_
  refine zs_callF hE (xx := ⟨"java/util/Iterator", "hasNext", "()Z"⟩) (As := []) (encA := encI) (ci := 8) rfl (fun y0 => met_J26_hasNext__J28 K y0) q875 q127 q1389 (List.mem_of_getElem? (i := 1) rfl) q873 q883 hdx_h2 (by decide) (by decide) rfl (by simp [zcat_rf, zcat_i, zcat_j, zcat_f, zcat_d]) (fun z hz => by cases hz) dX1_greatest_21 (fun r5 => ?_)
  show zS _ 26 _ [.int r5] _
  refine zs_if_eq hE 72 (by decide) dX1_greatest_26 ?_ ?_
  · refine zs_iload_n hE 0 rfl rfl dX1_greatest_72 ?_
    refine zs_iconst hE (v := (-1 : Int32)) (by decide) dX1_greatest_73 ?_
    refine zs_icmp_eq hE 81 (by decide) dX1_greatest_74 ?_ ?_
    · refine zs_iconst hE (v := (0 : Int32)) (by decide) dX1_greatest_81 ?_
      refine zs_sub [0] rfl ?_
      exact sm_X1_greatest_J82 hE x1 (0 : Int32)
    · refine zs_iconst hE (v := (1 : Int32)) (by decide) dX1_greatest_77 ?_
      refine zs_goto hE 82 (by decide) dX1_greatest_78 ?_
      refine zs_sub [0] rfl ?_
      exact sm_X1_greatest_J82 hE x1 (1 : Int32)
  · refine zs_aload_n hE 2 rfl rfl dX1_greatest_29 ?_
    refine zs_callF hE (xx := ⟨"java/util/Iterator", "next", "()Ljava/lang/Object;"⟩) (As := []) (encA := encR) (ci := 8) rfl (fun y0 => met_J28_next K y0) q1094 q129 q1391 (List.mem_of_getElem? (i := 2) rfl) q1092 q1090 hdx_h4 (by decide) (by decide) rfl (by simp [zcat_rf, zcat_i, zcat_j, zcat_f, zcat_d]) (fun z hz => by cases hz) dX1_greatest_30 (fun r6 => ?_)
    show zS _ 35 _ [va_rf r6] _
    refine zs_cast hE q1392 (zc1 rfl (Or.inl rfl)) dX1_greatest_35 ?_
    refine zs_astore hE (i := 4) (by decide) (zcat_rf x3) (lv' := [(1, .int x1), (2, .int x2), (3, va_rf x3)]) rfl dX1_greatest_38 ?_
    refine zs_aload hE 0 rfl dX1_greatest_40 ?_
    refine zs_callV hE (As := []) (encA := encI) (ci := 37) rfl (fun y0 => met_X5_rank K y0) q2106 q131 q2214 q2104 (zq q2105) hd_X5_rank (by decide) (by decide) rfl (by simp [zcat_rf, zcat_i, zcat_j, zcat_f, zcat_d]) (fun z hz => by cases hz) dX1_greatest_42 (fun r7 => ?_)
    show zS _ 45 _ [.int r7] _
    refine zs_iload_n hE 2 rfl rfl dX1_greatest_45 ?_
    refine zs_icmp_le hE 57 (by decide) dX1_greatest_46 ?_ ?_
    · refine zs_iload_n hE 1 rfl rfl dX1_greatest_57 ?_
      refine zs_sub [2, 3, 0] rfl ?_
      exact sm_X1_greatest_J58 hE x2 x3 r6 x1 self20 hs20
    · refine zs_aload hE 0 rfl dX1_greatest_49 ?_
      refine zs_getI hE (ci := 37) (k := 0) rfl (by decide) in_X5 (Or.inr ⟨_, zn q1550 rfl⟩) (Or.inl rfl) dX1_greatest_51 (fun v10 => ?_)
      refine zs_goto hE 58 (by decide) dX1_greatest_54 ?_
      refine zs_sub [2, 3, 0] rfl ?_
      exact sm_X1_greatest_J58 hE x2 x3 r6 v10 self20 hs20
theorem sm_X1_greatest_L20 {x : ZX Int32} {K : ZK} (hE : zE x K cX1_greatest RX1 "greatest" 5 7 184 encI (Option.some Jvm.ClassFile.FieldType.int) []) (x3 : Option Nat) (v : Int32 × Int32) : zS x 20 [(1, .int v.1), (2, .int v.2), (3, va_rf x3)] [] (s_X1_greatest_L20 K x3 v) := by
  unfold s_X1_greatest_L20
  exact zs_loop (lvf := fun v => [(1, .int v.1), (2, .int v.2), (3, va_rf x3)]) (fun self20 hs20 v => sm_X1_greatest_B20 hE x3 self20 hs20 v.1 v.2) v
theorem sm_X1_greatest {x : ZX Int32} {K : ZK} (hE : zE x K cX1_greatest RX1 "greatest" 5 7 184 encI (Option.some Jvm.ClassFile.FieldType.int) []) (this : Nat) : zS x 0 [(0, va_rf (some this))] [] (s_X1_greatest K this) := by
  unfold s_X1_greatest
  refine zs_iconst hE (v := (-1 : Int32)) (by decide) dX1_greatest_0 ?_
  refine zs_istore_n hE (i := 1) (q := 1) rfl (by decide) (zcat_rf (some this)) (lv' := [(0, va_rf (some this))]) rfl dX1_greatest_1 ?_
  refine zs_iconst hE (v := (-1 : Int32)) (by decide) dX1_greatest_2 ?_
  refine zs_istore_n hE (i := 2) (q := 2) rfl (by decide) (rfl) (lv' := [(1, .int (-1 : Int32)), (0, va_rf (some this))]) rfl dX1_greatest_3 ?_
  refine zs_aload_n hE 2 rfl rfl dX1_greatest_4 ?_
  refine zs_getR hE (ci := 24) (k := 0) rfl (by decide) in_X1 (Or.inl q391) (Or.inl rfl) dX1_greatest_5 (fun v1 => ?_)
  refine zs_getR hE (ci := 34) (k := 0) rfl (by decide) in_X2 (Or.inr ⟨_, zn q218 rfl⟩) (Or.inl rfl) dX1_greatest_8 (fun v2 => ?_)
  refine zs_callV hE (As := []) (encA := encR) (ci := 0) rfl (fun y0 => met_J1_values K y0) q427 q98 q1385 q425 (zq q426) hd_J1_values (by decide) (by decide) rfl (by simp [zcat_rf, zcat_i, zcat_j, zcat_f, zcat_d]) (fun z hz => by cases hz) dX1_greatest_11 (fun r3 => ?_)
  show zS _ 14 _ [va_rf r3] _
  refine zs_callF hE (xx := ⟨"java/util/Collection", "iterator", "()Ljava/util/Iterator;"⟩) (As := []) (encA := encR) (ci := 3) rfl (fun y0 => met_J21_iterator K y0) q831 q122 q1387 (List.mem_of_getElem? (i := 0) rfl) q829 q827 hdx_h1 (by decide) (by decide) rfl (by simp [zcat_rf, zcat_i, zcat_j, zcat_f, zcat_d]) (fun z hz => by cases hz) dX1_greatest_14 (fun r4 => ?_)
  show zS _ 19 _ [va_rf r4] _
  refine zs_astore_n hE (i := 3) (q := 3) rfl (by decide) (rfl) (lv' := [(2, .int (-1 : Int32)), (1, .int (-1 : Int32)), (0, va_rf (some this))]) rfl dX1_greatest_19 ?_
  refine zs_sub [2, 1, 0] rfl ?_
  exact sm_X1_greatest_L20 hE r4 ((-1 : Int32), (-1 : Int32))
theorem hd_X1_greatest : (yX1_greatest).cls ≠ "java/lang/invoke/MethodHandle" ∧ (yX1_greatest).cls ≠ "java/lang/invoke/VarHandle" ∧ (parseMethodDescriptor (yX1_greatest).desc).map (fun d => d.parameters.length) = some 0 := by decide +kernel
theorem met_X1_greatest (K : ZK) (this : Nat) : zMeth K yX1_greatest (zws yX1_greatest cX1_greatest 5 (Option.some Jvm.ClassFile.FieldType.int)) 7 184 [.ref this] encI (s_X1_greatest K this) :=
  fun l G hl hK => zmet_of hl hK (by decide +kernel) rfl rfl (by simp [zsl_nil, zsl_rf, zsl_r, zsl_i, zsl_j, zsl_f, zsl_d]) (fun x hE => by simp only [zla_nil, zla_rf, zla_r, zla_i, zla_j, zla_f, zla_d, Nat.reduceAdd]; exact sm_X1_greatest hE this)
theorem sm_X0_greatest {x : ZX Int32} {K : ZK} (hE : zE x K cX0_greatest RX0 "greatest" 3 8 208 encI (Option.some Jvm.ClassFile.FieldType.int) (tableOf [((0 : Nat), (8 : Nat), (11 : Nat), (46 : Nat))])) (a1 : Option Nat) (a2 : Option Nat) : zS x 0 [(0, va_rf a1), (1, va_rf a2)] [] (s_X0_greatest K a1 a2) := by
  unfold s_X0_greatest
  refine zs_aload_n hE 1 rfl rfl dX0_greatest_0 ?_
  refine zs_iconst hE (v := (0 : Int32)) (by decide) dX0_greatest_1 ?_
  refine zs_aload_n hE 0 rfl rfl dX0_greatest_2 ?_
  refine zs_callVT hE (As := []) (encA := encI) (ci := 24) rfl (fun y0 => met_X1_greatest K y0) q2437 q95 q2434 q2435 (zq q2436) hd_X1_greatest (by decide) (by decide) rfl (by simp [zcat_rf, zcat_i, zcat_j, zcat_f, zcat_d]) (zhl_cons (zhnd (tableOf []) (tableOf []) ⟨0, 8, 11, 46⟩ rfl (fun w hw => by cases hw) (by decide) (by decide) q2149 (zn q940 rfl) (fun q1 => ?_)) zhl_nil) dX0_greatest_3 (fun r2 => ?_)
  · have hE := zE_q q1 3 hE
    have hq := zqin_q (x := x) q1 3
    refine zs_astore_n hE (i := 2) (q := 2) rfl (by decide) (zcat_rf a2) (lv' := [(0, va_rf a1), (1, va_rf a2)]) rfl dX0_greatest_11 ?_
    refine zs_iconst hE (v := (1 : Int32)) (by decide) dX0_greatest_12 ?_
    exact zs_iret hE dX0_greatest_13
  · show zS _ 6 _ [.int r2, .int (0 : Int32), va_rf a2] _
    refine zs_i2l hE dX0_greatest_6 ?_
    refine zs_astJ hE dX0_greatest_7 ?_
    refine zs_goto hE 14 (by decide) dX0_greatest_8 ?_
    refine zs_iconst hE (v := (0 : Int32)) (by decide) dX0_greatest_14 ?_
    exact zs_iret hE dX0_greatest_15
theorem hd_X0_greatest : (yX0_greatest).cls ≠ "java/lang/invoke/MethodHandle" ∧ (yX0_greatest).cls ≠ "java/lang/invoke/VarHandle" ∧ (parseMethodDescriptor (yX0_greatest).desc).map (fun d => d.parameters.length) = some 2 := by decide +kernel
theorem met_X0_greatest (K : ZK) (a1 : Option Nat) (a2 : Option Nat) : zMeth K yX0_greatest (zwsW yX0_greatest cX0_greatest 3 (Option.some Jvm.ClassFile.FieldType.int) [((0 : Nat), (8 : Nat), (11 : Nat), (46 : Nat))]) 8 208 [va_rf a1, va_rf a2] encI (s_X0_greatest K a1 a2) :=
  fun l G hl hK => zmet_ofH hl hK (by decide +kernel) rfl rfl (by simp [zsl_nil, zsl_rf, zsl_r, zsl_i, zsl_j, zsl_f, zsl_d]) (fun x hE => by simp only [zla_nil, zla_rf, zla_r, zla_i, zla_j, zla_f, zla_d, Nat.reduceAdd]; exact sm_X0_greatest hE a1 a2)
theorem sm_J4_length__J5 {x : ZX Int32} {K : ZK} (hE : zE x K cJ4_length RJ4 "length" 1 1 100 encI (Option.some Jvm.ClassFile.FieldType.int) []) (this : Nat) : zS x 0 [(0, va_rf (some this))] [] (s_J4_length__J5 K this) := by
  unfold s_J4_length__J5
  refine zs_aload_n hE 0 rfl rfl dJ4_length_0 ?_
  refine zs_getI hE (ci := 21) (k := 3) rfl (by decide) in_J5 (Or.inl q380) (Or.inl rfl) dJ4_length_1 (fun v1 => ?_)
  exact zs_iret hE dJ4_length_4
theorem hd_J4_length__J5 : (yJ4_length).cls ≠ "java/lang/invoke/MethodHandle" ∧ (yJ4_length).cls ≠ "java/lang/invoke/VarHandle" ∧ (parseMethodDescriptor (yJ4_length).desc).map (fun d => d.parameters.length) = some 0 := by decide +kernel
theorem met_J4_length__J5 (K : ZK) (this : Nat) : zMeth K yJ4_length (zws yJ4_length cJ4_length 1 (Option.some Jvm.ClassFile.FieldType.int)) 1 100 [.ref this] encI (s_J4_length__J5 K this) :=
  fun l G hl hK => zmet_of hl hK (by decide +kernel) rfl rfl (by simp [zsl_nil, zsl_rf, zsl_r, zsl_i, zsl_j, zsl_f, zsl_d]) (fun x hE => by simp only [zla_nil, zla_rf, zla_r, zla_i, zla_j, zla_f, zla_d, Nat.reduceAdd]; exact sm_J4_length__J5 hE this)
theorem sm_J5_length {x : ZX Int32} {K : ZK} (hE : zE x K cJ5_length RJ5 "length" 1 2 120 encI (Option.some Jvm.ClassFile.FieldType.int) []) (this : Nat) : zS x 0 [(0, va_rf (some this))] [] (s_J5_length K this) := by
  unfold s_J5_length
  refine zs_aload_n hE 0 rfl rfl dJ5_length_0 ?_
  refine zs_callSU hE (As := []) (encA := encI) (ci := 21) rfl (fun y0 => met_J4_length__J5 K y0) q1274 q101 q1273 q1269 q389 q1268 ⟨by decide, (hd_J4_length__J5).2.2⟩ (by decide) (by decide) rfl (by simp [zcat_rf, zcat_i, zcat_j, zcat_f, zcat_d]) (fun z hz => by cases hz) dJ5_length_1 (fun r1 => ?_)
  show zS _ 4 _ [.int r1] _
  exact zs_iret hE dJ5_length_4
theorem hd_J5_length : (yJ5_length).cls ≠ "java/lang/invoke/MethodHandle" ∧ (yJ5_length).cls ≠ "java/lang/invoke/VarHandle" ∧ (parseMethodDescriptor (yJ5_length).desc).map (fun d => d.parameters.length) = some 0 := by decide +kernel
theorem met_J5_length (K : ZK) (this : Nat) : zMeth K yJ5_length (zws yJ5_length cJ5_length 1 (Option.some Jvm.ClassFile.FieldType.int)) 2 120 [.ref this] encI (s_J5_length K this) :=
  fun l G hl hK => zmet_of hl hK (by decide +kernel) rfl rfl (by simp [zsl_nil, zsl_rf, zsl_r, zsl_i, zsl_j, zsl_f, zsl_d]) (fun x hE => by simp only [zla_nil, zla_rf, zla_r, zla_i, zla_j, zla_f, zla_d, Nat.reduceAdd]; exact sm_J5_length hE this)
theorem sm_X1_checkState {x : ZX Unit} {K : ZK} (hE : zE x K cX1_checkState RX1 "checkState" 1 6 120 encV none []) (a1 : Int32) : zS x 0 [(0, .int a1)] [] (s_X1_checkState K a1) := by
  unfold s_X1_checkState
  refine zs_iload_n hE 0 rfl rfl dX1_checkState_0 ?_
  refine zs_if_ne hE 12 (by decide) dX1_checkState_1 ?_ ?_
  · exact zs_throw hE (ik := 66) (ic := 68) (ci := 4) (by decide) (by decide +kernel) q2450 q138 zth_4 zthg_4 (by decide) (by decide) (fun z hz => by cases hz) dX1_checkState_4 dX1_checkState_7 dX1_checkState_8 dX1_checkState_11
  · exact zs_vret hE dX1_checkState_12
theorem hd_X1_checkState : (yX1_checkState).cls ≠ "java/lang/invoke/MethodHandle" ∧ (yX1_checkState).cls ≠ "java/lang/invoke/VarHandle" ∧ (parseMethodDescriptor (yX1_checkState).desc).map (fun d => d.parameters.length) = some 1 := by decide +kernel
theorem met_X1_checkState (K : ZK) (a1 : Int32) : zMeth K yX1_checkState (zws yX1_checkState cX1_checkState 1 none) 6 120 [.int a1] encV (s_X1_checkState K a1) :=
  fun l G hl hK => zmet_of hl hK (by decide +kernel) rfl rfl (by simp [zsl_nil, zsl_rf, zsl_r, zsl_i, zsl_j, zsl_f, zsl_d]) (fun x hE => by simp only [zla_nil, zla_rf, zla_r, zla_i, zla_j, zla_f, zla_d, Nat.reduceAdd]; exact sm_X1_checkState hE a1)
theorem sm_J4_newCapacity__J5 {x : ZX Int32} {K : ZK} (hE : zE x K cJ4_newCapacity RJ4 "newCapacity" 6 3 145 encI (Option.some Jvm.ClassFile.FieldType.int) []) (this : Nat) (a1 : Int32) : zS x 0 [(0, va_rf (some this)), (1, .int a1)] [] (s_J4_newCapacity__J5 K this a1) := by
  unfold s_J4_newCapacity__J5
  refine zs_aload_n hE 0 rfl rfl dJ4_newCapacity_0 ?_
  refine zs_getR hE (ci := 21) (k := 0) rfl (by decide) in_J5 (Or.inl q376) (Or.inl rfl) dJ4_newCapacity_1 (fun v1 => ?_)
  refine zs_len hE (t := 3) rfl dJ4_newCapacity_4 (fun v2 => ?_)
  refine zs_istore_n hE (i := 2) (q := 2) rfl (by decide) (rfl) (lv' := [(0, va_rf (some this)), (1, .int a1)]) rfl dJ4_newCapacity_5 ?_
  refine zs_iload_n hE 2 rfl rfl dJ4_newCapacity_6 ?_
  refine zs_aload_n hE 1 rfl rfl dJ4_newCapacity_7 ?_
  refine zs_getI hE (ci := 21) (k := 1) rfl (by decide) in_J5 (Or.inl q377) (Or.inl rfl) dJ4_newCapacity_8 (fun v3 => ?_)
  refine zs_ishl hE dJ4_newCapacity_11 ?_
  refine zs_istore_n hE (i := 3) (q := 3) rfl (by decide) (rfl) (lv' := [(2, .int v2), (0, va_rf (some this)), (1, .int a1)]) rfl dJ4_newCapacity_12 ?_
  refine zs_iload_n hE 0 rfl rfl dJ4_newCapacity_13 ?_
  refine zs_iload_n hE 1 rfl rfl dJ4_newCapacity_14 ?_
  refine zs_isub hE dJ4_newCapacity_15 ?_
  refine zs_istore hE (i := 4) (by decide) (rfl) (lv' := [(3, .int (a1 <<< (v3 &&& 31))), (2, .int v2), (0, va_rf (some this)), (1, .int a1)]) rfl dJ4_newCapacity_16 ?_
  refine zs_iload_n hE 2 rfl rfl dJ4_newCapacity_18 ?_
  refine zs_iload hE 0 rfl dJ4_newCapacity_19 ?_
  refine zs_iload_n hE 2 rfl rfl dJ4_newCapacity_21 ?_
  refine zs_iconst hE (v := (2 : Int32)) (by decide) dJ4_newCapacity_22 ?_
  refine zs_aload_n hE 3 rfl rfl dJ4_newCapacity_23 ?_
  refine zs_getI hE (ci := 21) (k := 1) rfl (by decide) in_J5 (Or.inl q377) (Or.inl rfl) dJ4_newCapacity_24 (fun v4 => ?_)
  refine zs_ishl hE dJ4_newCapacity_27 ?_
  refine zs_iadd hE dJ4_newCapacity_28 ?_
  refine zs_callS hE (As := [.int v2, .int ((a1 <<< (v3 &&& 31)) - v2), .int (v2 + ((2 : Int32) <<< (v4 &&& 31)))]) (encA := encI) (met_J17_newLength K v2 ((a1 <<< (v3 &&& 31)) - v2) (v2 + ((2 : Int32) <<< (v4 &&& 31)))) q1151 q117 q1149 q1150 hd_J17_newLength (by decide) (by decide) rfl (by simp [zcat_rf, zcat_i, zcat_j, zcat_f, zcat_d]) (fun z hz => by cases hz) dJ4_newCapacity_29 (fun r5 => ?_)
  show zS _ 32 _ [.int r5] _
  refine zs_istore hE (i := 5) (by decide) (rfl) (lv' := [(4, .int ((a1 <<< (v3 &&& 31)) - v2)), (3, .int (a1 <<< (v3 &&& 31))), (2, .int v2), (0, va_rf (some this)), (1, .int a1)]) rfl dJ4_newCapacity_32 ?_
  refine zs_iload hE 0 rfl dJ4_newCapacity_34 ?_
  refine zs_ldc hE q1159 dJ4_newCapacity_36 ?_
  refine zs_icmp_ne hE 51 (by decide) dJ4_newCapacity_38 ?_ ?_
  · exact zs_bad
  · refine zs_iload hE 0 rfl dJ4_newCapacity_51 ?_
    refine zs_aload_n hE 4 rfl rfl dJ4_newCapacity_53 ?_
    refine zs_getI hE (ci := 21) (k := 1) rfl (by decide) in_J5 (Or.inl q377) (Or.inl rfl) dJ4_newCapacity_54 (fun v6 => ?_)
    refine zs_ishr hE dJ4_newCapacity_57 ?_
    exact zs_iret hE dJ4_newCapacity_58
theorem hd_J4_newCapacity__J5 : (yJ4_newCapacity).cls ≠ "java/lang/invoke/MethodHandle" ∧ (yJ4_newCapacity).cls ≠ "java/lang/invoke/VarHandle" ∧ (parseMethodDescriptor (yJ4_newCapacity).desc).map (fun d => d.parameters.length) = some 1 := by decide +kernel
theorem met_J4_newCapacity__J5 (K : ZK) (this : Nat) (a1 : Int32) : zMeth K yJ4_newCapacity (zws yJ4_newCapacity cJ4_newCapacity 6 (Option.some Jvm.ClassFile.FieldType.int)) 3 145 [.ref this, .int a1] encI (s_J4_newCapacity__J5 K this a1) :=
  fun l G hl hK => zmet_of hl hK (by decide +kernel) rfl rfl (by simp [zsl_nil, zsl_rf, zsl_r, zsl_i, zsl_j, zsl_f, zsl_d]) (fun x hE => by simp only [zla_nil, zla_rf, zla_r, zla_i, zla_j, zla_f, zla_d, Nat.reduceAdd]; exact sm_J4_newCapacity__J5 hE this a1)
theorem sm_J32_copyOf {x : ZX (Option Nat)} {K : ZK} (hE : zE x K cJ32_copyOf RJ32 "copyOf" 3 2 121 encR (Option.some (Jvm.ClassFile.FieldType.array Jvm.ClassFile.FieldType.byte)) []) (a1 : Option Nat) (a2 : Int32) : zS x 0 [(0, va_rf a1), (1, .int a2)] [] (s_J32_copyOf K a1 a2) := by
  unfold s_J32_copyOf
  refine zs_iload_n hE 1 rfl rfl dJ32_copyOf_0 ?_
  refine zs_aload_n hE 0 rfl rfl dJ32_copyOf_1 ?_
  refine zs_len hE (t := 3) rfl dJ32_copyOf_2 (fun v1 => ?_)
  refine zs_icmp_ne hE 14 (by decide) dJ32_copyOf_3 ?_ ?_
  · refine zs_aload_n hE 0 rfl rfl dJ32_copyOf_6 ?_
    exact zs_bad
  · refine zs_iload_n hE 1 rfl rfl dJ32_copyOf_14 ?_
    refine zs_newA hE 3 (at0 := .byte) q390 rfl rfl (by decide) (fun _ _ h => h) (fun _ => rfl) (by decide) dJ32_copyOf_15 (fun q2 => ?_)
    refine zs_astore_n hE (i := 2) (q := 2) rfl (by decide) (rfl) (lv' := [(0, va_rf a1), (1, .int a2)]) rfl dJ32_copyOf_17 ?_
    refine zs_aload_n hE 1 rfl rfl dJ32_copyOf_18 ?_
    refine zs_iconst hE (v := (0 : Int32)) (by decide) dJ32_copyOf_19 ?_
    refine zs_aload_n hE 0 rfl rfl dJ32_copyOf_20 ?_
    refine zs_iconst hE (v := (0 : Int32)) (by decide) dJ32_copyOf_21 ?_
    refine zs_aload_n hE 1 rfl rfl dJ32_copyOf_22 ?_
    refine zs_len hE (t := 3) rfl dJ32_copyOf_23 (fun v3 => ?_)
    refine zs_iload_n hE 2 rfl rfl dJ32_copyOf_24 ?_
    refine zs_callS hE (As := [.int v3, .int a2]) (encA := encI) (met_J16_min K v3 a2) q568 q116 q1170 q567 hd_J16_min (by decide) (by decide) rfl (by simp [zcat_rf, zcat_i, zcat_j, zcat_f, zcat_d]) (fun z hz => by cases hz) dJ32_copyOf_25 (fun r4 => ?_)
    show zS _ 28 _ [.int r4, .int (0 : Int32), va_rf (some q2), .int (0 : Int32), va_rf a1] _
    refine zs_copyB hE q1171 q1173 q1172 q135 (by decide) (by decide) dJ32_copyOf_28 ?_
    refine zs_aload_n hE 0 rfl rfl dJ32_copyOf_31 ?_
    exact zs_aret hE (Or.inr ⟨_, rfl⟩) dJ32_copyOf_32
theorem hd_J32_copyOf : (yJ32_copyOf).cls ≠ "java/lang/invoke/MethodHandle" ∧ (yJ32_copyOf).cls ≠ "java/lang/invoke/VarHandle" ∧ (parseMethodDescriptor (yJ32_copyOf).desc).map (fun d => d.parameters.length) = some 2 := by decide +kernel
theorem met_J32_copyOf (K : ZK) (a1 : Option Nat) (a2 : Int32) : zMeth K yJ32_copyOf (zws yJ32_copyOf cJ32_copyOf 3 (Option.some (Jvm.ClassFile.FieldType.array Jvm.ClassFile.FieldType.byte))) 2 121 [va_rf a1, .int a2] encR (s_J32_copyOf K a1 a2) :=
  fun l G hl hK => zmet_of hl hK (by decide +kernel) rfl rfl (by simp [zsl_nil, zsl_rf, zsl_r, zsl_i, zsl_j, zsl_f, zsl_d]) (fun x hE => by simp only [zla_nil, zla_rf, zla_r, zla_i, zla_j, zla_f, zla_d, Nat.reduceAdd]; exact sm_J32_copyOf hE a1 a2)
theorem sm_J4_ensureCapacityInternal__J5 {x : ZX Unit} {K : ZK} (hE : zE x K cJ4_ensureCapacityInternal RJ4 "ensureCapacityInternal" 3 4 170 encV none []) (this : Nat) (a1 : Int32) : zS x 0 [(0, va_rf (some this)), (1, .int a1)] [] (s_J4_ensureCapacityInternal__J5 K this a1) := by
  unfold s_J4_ensureCapacityInternal__J5
  refine zs_aload_n hE 0 rfl rfl dJ4_ensureCapacityInternal_0 ?_
  refine zs_getR hE (ci := 21) (k := 0) rfl (by decide) in_J5 (Or.inl q376) (Or.inl rfl) dJ4_ensureCapacityInternal_1 (fun v1 => ?_)
  refine zs_len hE (t := 3) rfl dJ4_ensureCapacityInternal_4 (fun v2 => ?_)
  refine zs_aload_n hE 0 rfl rfl dJ4_ensureCapacityInternal_5 ?_
  refine zs_getI hE (ci := 21) (k := 1) rfl (by decide) in_J5 (Or.inl q377) (Or.inl rfl) dJ4_ensureCapacityInternal_6 (fun v3 => ?_)
  refine zs_ishr hE dJ4_ensureCapacityInternal_9 ?_
  refine zs_istore_n hE (i := 2) (q := 2) rfl (by decide) (rfl) (lv' := [(0, va_rf (some this)), (1, .int a1)]) rfl dJ4_ensureCapacityInternal_10 ?_
  refine zs_iload_n hE 2 rfl rfl dJ4_ensureCapacityInternal_11 ?_
  refine zs_iload_n hE 0 rfl rfl dJ4_ensureCapacityInternal_12 ?_
  refine zs_isub hE dJ4_ensureCapacityInternal_13 ?_
  refine zs_if_le hE 38 (by decide) dJ4_ensureCapacityInternal_14 ?_ ?_
  · exact zs_vret hE dJ4_ensureCapacityInternal_38
  · refine zs_aload_n hE 1 rfl rfl dJ4_ensureCapacityInternal_17 ?_
    refine zs_aload_n hE 1 rfl rfl dJ4_ensureCapacityInternal_18 ?_
    refine zs_getR hE (ci := 21) (k := 0) rfl (by decide) in_J5 (Or.inl q376) (Or.inl rfl) dJ4_ensureCapacityInternal_19 (fun v4 => ?_)
    refine zs_aload_n hE 1 rfl rfl dJ4_ensureCapacityInternal_22 ?_
    refine zs_iload_n hE 2 rfl rfl dJ4_ensureCapacityInternal_23 ?_
    refine zs_callV hE (As := [.int a1]) (encA := encI) (ci := 21) rfl (fun y0 => met_J4_newCapacity__J5 K y0 a1) q1148 q101 q1145 q1147 (List.mem_append_left _ (List.mem_of_getElem? (i := 1) rfl)) hd_J4_newCapacity__J5 (by decide) (by decide) rfl (by simp [zcat_rf, zcat_i, zcat_j, zcat_f, zcat_d]) (fun z hz => by cases hz) dJ4_ensureCapacityInternal_24 (fun r5 => ?_)
    show zS _ 27 _ [.int r5, va_rf v4, va_rf (some this)] _
    refine zs_aload_n hE 1 rfl rfl dJ4_ensureCapacityInternal_27 ?_
    refine zs_getI hE (ci := 21) (k := 1) rfl (by decide) in_J5 (Or.inl q377) (Or.inl rfl) dJ4_ensureCapacityInternal_28 (fun v6 => ?_)
    refine zs_ishl hE dJ4_ensureCapacityInternal_31 ?_
    refine zs_callS hE (As := [va_rf v4, .int (r5 <<< (v6 &&& 31))]) (encA := encR) (met_J32_copyOf K v4 (r5 <<< (v6 &&& 31))) q1162 q134 q1160 q1161 hd_J32_copyOf (by decide) (by decide) rfl (by simp [zcat_rf, zcat_i, zcat_j, zcat_f, zcat_d]) (fun z hz => by cases hz) dJ4_ensureCapacityInternal_32 (fun r7 => ?_)
    show zS _ 35 _ [va_rf r7, va_rf (some this)] _
    refine zs_putR hE (ci := 21) (k := 0) rfl (by decide) in_J5 (Or.inl q376) (Or.inl rfl) (Or.inl rfl) (fun h => nomatch h) (tyJ5_ok 0 (by decide)) (Or.inr ⟨_, rfl⟩) dJ4_ensureCapacityInternal_35 ?_
    exact zs_vret hE dJ4_ensureCapacityInternal_38
theorem hd_J4_ensureCapacityInternal__J5 : (yJ4_ensureCapacityInternal).cls ≠ "java/lang/invoke/MethodHandle" ∧ (yJ4_ensureCapacityInternal).cls ≠ "java/lang/invoke/VarHandle" ∧ (parseMethodDescriptor (yJ4_ensureCapacityInternal).desc).map (fun d => d.parameters.length) = some 1 := by decide +kernel
theorem met_J4_ensureCapacityInternal__J5 (K : ZK) (this : Nat) (a1 : Int32) : zMeth K yJ4_ensureCapacityInternal (zws yJ4_ensureCapacityInternal cJ4_ensureCapacityInternal 3 none) 4 170 [.ref this, .int a1] encV (s_J4_ensureCapacityInternal__J5 K this a1) :=
  fun l G hl hK => zmet_of hl hK (by decide +kernel) rfl rfl (by simp [zsl_nil, zsl_rf, zsl_r, zsl_i, zsl_j, zsl_f, zsl_d]) (fun x hE => by simp only [zla_nil, zla_rf, zla_r, zla_i, zla_j, zla_f, zla_d, Nat.reduceAdd]; exact sm_J4_ensureCapacityInternal__J5 hE this a1)
theorem sm_J4_isLatin1__J5 {x : ZX Int32} {K : ZK} (hE : zE x K cJ4_isLatin1 RJ4 "isLatin1" 1 1 100 encI (Option.some Jvm.ClassFile.FieldType.boolean) []) (this : Nat) : zS x 0 [(0, va_rf (some this))] [] (s_J4_isLatin1__J5 K this) := by
  unfold s_J4_isLatin1__J5
  refine zs_gets hE (C := "java/lang/String") (v := .int (1 : Int32)) (by simp [zST]) q367 (Or.inl rfl) dJ4_isLatin1_0 ?_
  refine zs_if_eq hE 17 (by decide) dJ4_isLatin1_3 ?_ ?_
  · exact zs_bad
  · refine zs_aload_n hE 0 rfl rfl dJ4_isLatin1_6 ?_
    refine zs_getI hE (ci := 21) (k := 1) rfl (by decide) in_J5 (Or.inl q377) (Or.inl rfl) dJ4_isLatin1_7 (fun v1 => ?_)
    refine zs_if_ne hE 17 (by decide) dJ4_isLatin1_10 ?_ ?_
    · refine zs_iconst hE (v := (1 : Int32)) (by decide) dJ4_isLatin1_13 ?_
      refine zs_goto hE 18 (by decide) dJ4_isLatin1_14 ?_
      exact zs_zret hE rfl dJ4_isLatin1_18
    · refine zs_iconst hE (v := (0 : Int32)) (by decide) dJ4_isLatin1_17 ?_
      exact zs_zret hE rfl dJ4_isLatin1_18
theorem hd_J4_isLatin1__J5 : (yJ4_isLatin1).cls ≠ "java/lang/invoke/MethodHandle" ∧ (yJ4_isLatin1).cls ≠ "java/lang/invoke/VarHandle" ∧ (parseMethodDescriptor (yJ4_isLatin1).desc).map (fun d => d.parameters.length) = some 0 := by decide +kernel
theorem met_J4_isLatin1__J5 (K : ZK) (this : Nat) : zMeth K yJ4_isLatin1 (zws yJ4_isLatin1 cJ4_isLatin1 1 (Option.some Jvm.ClassFile.FieldType.boolean)) 1 100 [.ref this] encI (s_J4_isLatin1__J5 K this) :=
  fun l G hl hK => zmet_of hl hK (by decide +kernel) rfl rfl (by simp [zsl_nil, zsl_rf, zsl_r, zsl_i, zsl_j, zsl_f, zsl_d]) (fun x hE => by simp only [zla_nil, zla_rf, zla_r, zla_i, zla_j, zla_f, zla_d, Nat.reduceAdd]; exact sm_J4_isLatin1__J5 hE this)
theorem sm_J15_canEncode {x : ZX Int32} {K : ZK} (hE : zE x K cJ15_canEncode RJ15 "canEncode" 1 1 100 encI (Option.some Jvm.ClassFile.FieldType.boolean) []) (a1 : Int32) : zS x 0 [(0, .int a1)] [] (s_J15_canEncode K a1) := by
  unfold s_J15_canEncode
  refine zs_iload_n hE 0 rfl rfl dJ15_canEncode_0 ?_
  refine zs_sipush hE (v := (255 : Int32)) (by decide) dJ15_canEncode_1 ?_
  refine zs_icmp_gt hE 11 (by decide) dJ15_canEncode_4 ?_ ?_
  · refine zs_iconst hE (v := (0 : Int32)) (by decide) dJ15_canEncode_11 ?_
    exact zs_zret hE rfl dJ15_canEncode_12
  · refine zs_iconst hE (v := (1 : Int32)) (by decide) dJ15_canEncode_7 ?_
    refine zs_goto hE 12 (by decide) dJ15_canEncode_8 ?_
    exact zs_zret hE rfl dJ15_canEncode_12
theorem hd_J15_canEncode : (yJ15_canEncode).cls ≠ "java/lang/invoke/MethodHandle" ∧ (yJ15_canEncode).cls ≠ "java/lang/invoke/VarHandle" ∧ (parseMethodDescriptor (yJ15_canEncode).desc).map (fun d => d.parameters.length) = some 1 := by decide +kernel
theorem met_J15_canEncode (K : ZK) (a1 : Int32) : zMeth K yJ15_canEncode (zws yJ15_canEncode cJ15_canEncode 1 (Option.some Jvm.ClassFile.FieldType.boolean)) 1 100 [.int a1] encI (s_J15_canEncode K a1) :=
  fun l G hl hK => zmet_of hl hK (by decide +kernel) rfl rfl (by simp [zsl_nil, zsl_rf, zsl_r, zsl_i, zsl_j, zsl_f, zsl_d]) (fun x hE => by simp only [zla_nil, zla_rf, zla_r, zla_i, zla_j, zla_f, zla_d, Nat.reduceAdd]; exact sm_J15_canEncode hE a1)
theorem sm_J4_append_3__J5_J56 {x : ZX (Option Nat)} {K : ZK} (hE : zE x K cJ4_append_3 RJ4 "append" 2 5 192 encR (Option.some (Jvm.ClassFile.FieldType.object "java/lang/AbstractStringBuilder")) []) (x0 : Nat) (x1 : Int32) : zS x 56 [(0, va_rf (some x0)), (1, .int x1)] [] (s_J4_append_3__J5_J56 K x0 x1) := by
  unfold s_J4_append_3__J5_J56
  refine zs_aload_n hE 0 rfl rfl dJ4_append_3_56 ?_
  refine zs_getR hE (ci := 21) (k := 0) rfl (by decide) in_J5 (Or.inl q376) (Or.inl rfl) dJ4_append_3_57 (fun v4 => ?_)
  refine zs_aload_n hE 0 rfl rfl dJ4_append_3_60 ?_
  refine zs_dup hE (zcat_rf _) dJ4_append_3_61 ?_
  refine zs_getI hE (ci := 21) (k := 3) rfl (by decide) in_J5 (Or.inl q380) (Or.inl rfl) dJ4_append_3_62 (fun v5 => ?_)
  refine zs_dup_x1 hE (rfl) (zcat_rf _) dJ4_append_3_65 ?_
  refine zs_iconst hE (v := (1 : Int32)) (by decide) dJ4_append_3_66 ?_
  refine zs_iadd hE dJ4_append_3_67 ?_
  refine zs_putI hE (ci := 21) (k := 3) rfl (by decide) in_J5 (Or.inl q380) (Or.inl rfl) (Or.inl rfl) (fun h => nomatch h) rfl dJ4_append_3_68 ?_
  refine zs_iload_n hE 1 rfl rfl dJ4_append_3_71 ?_
  exact zs_bad
theorem sm_J4_append_3__J5_J45 {x : ZX (Option Nat)} {K : ZK} (hE : zE x K cJ4_append_3 RJ4 "append" 2 5 192 encR (Option.some (Jvm.ClassFile.FieldType.object "java/lang/AbstractStringBuilder")) []) (x0 : Nat) (x1 : Int32) : zS x 45 [(0, va_rf (some x0)), (1, .int x1)] [] (s_J4_append_3__J5_J45 K x0 x1) := by
  unfold s_J4_append_3__J5_J45
  refine zs_aload_n hE 0 rfl rfl dJ4_append_3_45 ?_
  refine zs_callV hE (As := []) (encA := encI) (ci := 21) rfl (fun y0 => met_J4_isLatin1__J5 K y0) q728 q101 q724 q725 (zq q727) hd_J4_isLatin1__J5 (by decide) (by decide) rfl (by simp [zcat_rf, zcat_i, zcat_j, zcat_f, zcat_d]) (fun z hz => by cases hz) dJ4_append_3_46 (fun r3 => ?_)
  show zS _ 49 _ [.int r3] _
  refine zs_if_eq hE 56 (by decide) dJ4_append_3_49 ?_ ?_
  · exact sm_J4_append_3__J5_J56 hE x0 x1
  · refine zs_aload_n hE 0 rfl rfl dJ4_append_3_52 ?_
    exact zs_bad
theorem sm_J4_append_3__J5 {x : ZX (Option Nat)} {K : ZK} (hE : zE x K cJ4_append_3 RJ4 "append" 2 5 192 encR (Option.some (Jvm.ClassFile.FieldType.object "java/lang/AbstractStringBuilder")) []) (this : Nat) (a1 : Int32) : zS x 0 [(0, va_rf (some this)), (1, .int a1)] [] (s_J4_append_3__J5 K this a1) := by
  unfold s_J4_append_3__J5
  refine zs_aload_n hE 0 rfl rfl dJ4_append_3_0 ?_
  refine zs_aload_n hE 0 rfl rfl dJ4_append_3_1 ?_
  refine zs_getI hE (ci := 21) (k := 3) rfl (by decide) in_J5 (Or.inl q380) (Or.inl rfl) dJ4_append_3_2 (fun v1 => ?_)
  refine zs_iconst hE (v := (1 : Int32)) (by decide) dJ4_append_3_5 ?_
  refine zs_iadd hE dJ4_append_3_6 ?_
  refine zs_callV hE (As := [.int (v1 + (1 : Int32))]) (encA := encV) (ci := 21) rfl (fun y0 => met_J4_ensureCapacityInternal__J5 K y0 (v1 + (1 : Int32))) q1144 q101 q1141 q1143 (List.mem_append_left _ (List.mem_of_getElem? (i := 0) rfl)) hd_J4_ensureCapacityInternal__J5 (by decide) (by decide) rfl (by simp [zcat_rf, zcat_i, zcat_j, zcat_f, zcat_d]) (fun z hz => by cases hz) dJ4_append_3_7 (fun _ => ?_)
  show zS _ 10 _ [] _
  refine zs_aload_n hE 0 rfl rfl dJ4_append_3_10 ?_
  refine zs_callV hE (As := []) (encA := encI) (ci := 21) rfl (fun y0 => met_J4_isLatin1__J5 K y0) q728 q101 q724 q725 (zq q727) hd_J4_isLatin1__J5 (by decide) (by decide) rfl (by simp [zcat_rf, zcat_i, zcat_j, zcat_f, zcat_d]) (fun z hz => by cases hz) dJ4_append_3_11 (fun r2 => ?_)
  show zS _ 14 _ [.int r2] _
  refine zs_if_eq hE 45 (by decide) dJ4_append_3_14 ?_ ?_
  · exact sm_J4_append_3__J5_J45 hE this a1
  · refine zs_iload_n hE 1 rfl rfl dJ4_append_3_17 ?_
    refine zs_callS hE (As := [.int a1]) (encA := encI) (met_J15_canEncode K a1) q1408 q115 q1406 q1407 hd_J15_canEncode (by decide) (by decide) rfl (by simp [zcat_rf, zcat_i, zcat_j, zcat_f, zcat_d]) (fun z hz => by cases hz) dJ4_append_3_18 (fun r6 => ?_)
    show zS _ 21 _ [.int r6] _
    refine zs_if_eq hE 45 (by decide) dJ4_append_3_21 ?_ ?_
    · exact sm_J4_append_3__J5_J45 hE this a1
    · refine zs_aload_n hE 0 rfl rfl dJ4_append_3_24 ?_
      refine zs_getR hE (ci := 21) (k := 0) rfl (by decide) in_J5 (Or.inl q376) (Or.inl rfl) dJ4_append_3_25 (fun v7 => ?_)
      refine zs_aload_n hE 0 rfl rfl dJ4_append_3_28 ?_
      refine zs_dup hE (zcat_rf _) dJ4_append_3_29 ?_
      refine zs_getI hE (ci := 21) (k := 3) rfl (by decide) in_J5 (Or.inl q380) (Or.inl rfl) dJ4_append_3_30 (fun v8 => ?_)
      refine zs_dup_x1 hE (rfl) (zcat_rf _) dJ4_append_3_33 ?_
      refine zs_iconst hE (v := (1 : Int32)) (by decide) dJ4_append_3_34 ?_
      refine zs_iadd hE dJ4_append_3_35 ?_
      refine zs_putI hE (ci := 21) (k := 3) rfl (by decide) in_J5 (Or.inl q380) (Or.inl rfl) (Or.inl rfl) (fun h => nomatch h) rfl dJ4_append_3_36 ?_
      refine zs_iload_n hE 1 rfl rfl dJ4_append_3_39 ?_
      refine zs_i2b hE dJ4_append_3_40 ?_
      refine zs_astB hE dJ4_append_3_41 ?_
      refine zs_goto hE 75 (by decide) dJ4_append_3_42 ?_
      refine zs_aload_n hE 0 rfl rfl dJ4_append_3_75 ?_
      exact zs_aret hE (Or.inl ⟨_, rfl⟩) dJ4_append_3_76
theorem hd_J4_append_3__J5 : (yJ4_append_3).cls ≠ "java/lang/invoke/MethodHandle" ∧ (yJ4_append_3).cls ≠ "java/lang/invoke/VarHandle" ∧ (parseMethodDescriptor (yJ4_append_3).desc).map (fun d => d.parameters.length) = some 1 := by decide +kernel
theorem met_J4_append_3__J5 (K : ZK) (this : Nat) (a1 : Int32) : zMeth K yJ4_append_3 (zws yJ4_append_3 cJ4_append_3 2 (Option.some (Jvm.ClassFile.FieldType.object "java/lang/AbstractStringBuilder"))) 5 192 [.ref this, .int a1] encR (s_J4_append_3__J5 K this a1) :=
  fun l G hl hK => zmet_of hl hK (by decide +kernel) rfl rfl (by simp [zsl_nil, zsl_rf, zsl_r, zsl_i, zsl_j, zsl_f, zsl_d]) (fun x hE => by simp only [zla_nil, zla_rf, zla_r, zla_i, zla_j, zla_f, zla_d, Nat.reduceAdd]; exact sm_J4_append_3__J5 hE this a1)
theorem sm_J5_append_3 {x : ZX (Option Nat)} {K : ZK} (hE : zE x K cJ5_append_3 RJ5 "append" 2 6 213 encR (Option.some (Jvm.ClassFile.FieldType.object "java/lang/StringBuilder")) []) (this : Nat) (a1 : Int32) : zS x 0 [(0, va_rf (some this)), (1, .int a1)] [] (s_J5_append_3 K this a1) := by
  unfold s_J5_append_3
  refine zs_aload_n hE 0 rfl rfl dJ5_append_3_0 ?_
  refine zs_iload_n hE 1 rfl rfl dJ5_append_3_1 ?_
  refine zs_callSU hE (As := [.int a1]) (encA := encR) (ci := 21) rfl (fun y0 => met_J4_append_3__J5 K y0 a1) q1405 q101 q1403 q3298 q389 q1404 ⟨by decide, (hd_J4_append_3__J5).2.2⟩ (by decide) (by decide) rfl (by simp [zcat_rf, zcat_i, zcat_j, zcat_f, zcat_d]) (fun z hz => by cases hz) dJ5_append_3_2 (fun r1 => ?_)
  show zS _ 5 _ [va_rf r1] _
  refine zs_pop hE (zcat_rf _) dJ5_append_3_5 ?_
  refine zs_aload_n hE 0 rfl rfl dJ5_append_3_6 ?_
  exact zs_aret hE (Or.inl ⟨_, rfl⟩) dJ5_append_3_7
theorem hd_J5_append_3 : (yJ5_append_3).cls ≠ "java/lang/invoke/MethodHandle" ∧ (yJ5_append_3).cls ≠ "java/lang/invoke/VarHandle" ∧ (parseMethodDescriptor (yJ5_append_3).desc).map (fun d => d.parameters.length) = some 1 := by decide +kernel
theorem met_J5_append_3 (K : ZK) (this : Nat) (a1 : Int32) : zMeth K yJ5_append_3 (zws yJ5_append_3 cJ5_append_3 2 (Option.some (Jvm.ClassFile.FieldType.object "java/lang/StringBuilder"))) 6 213 [.ref this, .int a1] encR (s_J5_append_3 K this a1) :=
  fun l G hl hK => zmet_of hl hK (by decide +kernel) rfl rfl (by simp [zsl_nil, zsl_rf, zsl_r, zsl_i, zsl_j, zsl_f, zsl_d]) (fun x hE => by simp only [zla_nil, zla_rf, zla_r, zla_i, zla_j, zla_f, zla_d, Nat.reduceAdd]; exact sm_J5_append_3 hE this a1)
theorem sm_X1_append_J28 {x : ZX Int32} {K : ZK} (hE : zE x K cX1_append RX1 "append" 2 7 234 encI (Option.some Jvm.ClassFile.FieldType.int) []) (x0 : Nat) (x1 : Int32) (t0 : Int32) : zS x 28 [(0, va_rf (some x0)), (1, .int x1)] [.int t0] (s_X1_append_J28 K x0 x1 t0) := by
  unfold s_X1_append_J28
  refine zs_callS hE (As := [.int t0]) (encA := encV) (met_X1_checkState K t0) q2449 q95 q2447 q2448 hd_X1_checkState (by decide) (by decide) rfl (by simp [zcat_rf, zcat_i, zcat_j, zcat_f, zcat_d]) (fun z hz => by cases hz) dX1_append_28 (fun _ => ?_)
  show zS _ 31 _ [] _
  refine zs_aload_n hE 0 rfl rfl dX1_append_31 ?_
  refine zs_getR hE (ci := 24) (k := 3) rfl (by decide) in_X1 (Or.inl q394) (Or.inl rfl) dX1_append_32 (fun v4 => ?_)
  refine zs_iload_n hE 1 rfl rfl dX1_append_35 ?_
  refine zs_callV hE (As := [.int x1]) (encA := encR) (ci := 21) rfl (fun y0 => met_J5_append_3 K y0 x1) q1402 q102 q1399 q1400 (zq q1401) hd_J5_append_3 (by decide) (by decide) rfl (by simp [zcat_rf, zcat_i, zcat_j, zcat_f, zcat_d]) (fun z hz => by cases hz) dX1_append_36 (fun r5 => ?_)
  show zS _ 39 _ [va_rf r5] _
  refine zs_pop hE (zcat_rf _) dX1_append_39 ?_
  refine zs_aload_n hE 0 rfl rfl dX1_append_40 ?_
  refine zs_getR hE (ci := 24) (k := 3) rfl (by decide) in_X1 (Or.inl q394) (Or.inl rfl) dX1_append_41 (fun v6 => ?_)
  refine zs_callV hE (As := []) (encA := encI) (ci := 21) rfl (fun y0 => met_J5_length K y0) q1272 q102 q1393 q1271 (zq q3297) hd_J5_length (by decide) (by decide) rfl (by simp [zcat_rf, zcat_i, zcat_j, zcat_f, zcat_d]) (fun z hz => by cases hz) dX1_append_44 (fun r7 => ?_)
  show zS _ 47 _ [.int r7] _
  exact zs_iret hE dX1_append_47
theorem sm_X1_append {x : ZX Int32} {K : ZK} (hE : zE x K cX1_append RX1 "append" 2 7 234 encI (Option.some Jvm.ClassFile.FieldType.int) []) (this : Nat) (a1 : Int32) : zS x 0 [(0, va_rf (some this)), (1, .int a1)] [] (s_X1_append K this a1) := by
  unfold s_X1_append
  refine zs_iload_n hE 1 rfl rfl dX1_append_0 ?_
  refine zs_bipush hE (v := (33 : Int32)) (by decide) dX1_append_1 ?_
  refine zs_bipush hE (v := (126 : Int32)) (by decide) dX1_append_3 ?_
  refine zs_callS hE (As := [.int a1, .int (33 : Int32), .int (126 : Int32)]) (encA := encI) (met_X1_isBetween K a1 (33 : Int32) (126 : Int32)) q1776 q95 q1774 q1775 hd_X1_isBetween (by decide) (by decide) rfl (by simp [zcat_rf, zcat_i, zcat_j, zcat_f, zcat_d]) (fun z hz => by cases hz) dX1_append_5 (fun r1 => ?_)
  show zS _ 8 _ [.int r1] _
  refine zs_callS hE (As := [.int r1]) (encA := encV) (met_X1_check K r1) q2140 q95 q2138 q2139 hd_X1_check (by decide) (by decide) rfl (by simp [zcat_rf, zcat_i, zcat_j, zcat_f, zcat_d]) (fun z hz => by cases hz) dX1_append_8 (fun _ => ?_)
  show zS _ 11 _ [] _
  refine zs_aload_n hE 0 rfl rfl dX1_append_11 ?_
  refine zs_getR hE (ci := 24) (k := 3) rfl (by decide) in_X1 (Or.inl q394) (Or.inl rfl) dX1_append_12 (fun v2 => ?_)
  refine zs_callV hE (As := []) (encA := encI) (ci := 21) rfl (fun y0 => met_J5_length K y0) q1272 q102 q1393 q1271 (zq q3297) hd_J5_length (by decide) (by decide) rfl (by simp [zcat_rf, zcat_i, zcat_j, zcat_f, zcat_d]) (fun z hz => by cases hz) dX1_append_15 (fun r3 => ?_)
  show zS _ 18 _ [.int r3] _
  refine zs_bipush hE (v := (60 : Int32)) (by decide) dX1_append_18 ?_
  refine zs_icmp_ge hE 27 (by decide) dX1_append_20 ?_ ?_
  · refine zs_iconst hE (v := (0 : Int32)) (by decide) dX1_append_27 ?_
    exact sm_X1_append_J28 hE this a1 (0 : Int32)
  · refine zs_iconst hE (v := (1 : Int32)) (by decide) dX1_append_23 ?_
    refine zs_goto hE 28 (by decide) dX1_append_24 ?_
    exact sm_X1_append_J28 hE this a1 (1 : Int32)
theorem hd_X1_append : (yX1_append).cls ≠ "java/lang/invoke/MethodHandle" ∧ (yX1_append).cls ≠ "java/lang/invoke/VarHandle" ∧ (parseMethodDescriptor (yX1_append).desc).map (fun d => d.parameters.length) = some 1 := by decide +kernel
theorem met_X1_append (K : ZK) (this : Nat) (a1 : Int32) : zMeth K yX1_append (zws yX1_append cX1_append 2 (Option.some Jvm.ClassFile.FieldType.int)) 7 234 [.ref this, .int a1] encI (s_X1_append K this a1) :=
  fun l G hl hK => zmet_of hl hK (by decide +kernel) rfl rfl (by simp [zsl_nil, zsl_rf, zsl_r, zsl_i, zsl_j, zsl_f, zsl_d]) (fun x hE => by simp only [zla_nil, zla_rf, zla_r, zla_i, zla_j, zla_f, zla_d, Nat.reduceAdd]; exact sm_X1_append hE this a1)
theorem sm_X0_append {x : ZX Int32} {K : ZK} (hE : zE x K cX0_append RX0 "append" 4 8 255 encI (Option.some Jvm.ClassFile.FieldType.int) (tableOf [((0 : Nat), (9 : Nat), (12 : Nat), (41 : Nat)), ((0 : Nat), (9 : Nat), (15 : Nat), (104 : Nat))])) (a1 : Option Nat) (a2 : Int32) (a3 : Option Nat) : zS x 0 [(0, va_rf a1), (1, .int a2), (2, va_rf a3)] [] (s_X0_append K a1 a2 a3) := by
  unfold s_X0_append
  refine zs_aload_n hE 2 rfl rfl dX0_append_0 ?_
  refine zs_iconst hE (v := (0 : Int32)) (by decide) dX0_append_1 ?_
  refine zs_aload_n hE 0 rfl rfl dX0_append_2 ?_
  refine zs_iload_n hE 1 rfl rfl dX0_append_3 ?_
  refine zs_callVT hE (As := [.int a2]) (encA := encI) (ci := 24) rfl (fun y0 => met_X1_append K y0 a2) q2446 q95 q2443 q2444 (zq q2445) hd_X1_append (by decide) (by decide) rfl (by simp [zcat_rf, zcat_i, zcat_j, zcat_f, zcat_d]) (zhl_cons (zhnd (tableOf []) (tableOf [(0, 9, 15, 104)]) ⟨0, 9, 12, 41⟩ rfl (fun w hw => by cases hw) (by decide) (by decide) q2133 (zn q1287 rfl) (fun q1 => ?_)) (zhl_cons (zhnd (tableOf [(0, 9, 12, 41)]) (tableOf []) ⟨0, 9, 15, 104⟩ rfl (fun w hw => by obtain rfl := List.mem_singleton.mp hw; exact Or.inr ⟨by decide, "java/lang/IllegalArgumentException", q2133, List.mem_of_getElem? (i := 2) rfl⟩) (by decide) (by decide) q2442 (zn q1849 rfl) (fun q2 => ?_)) zhl_nil)) dX0_append_4 (fun r3 => ?_)
  · have hE := zE_q q1 1 hE
    have hq := zqin_q (x := x) q1 1
    refine zs_astore_n hE (i := 3) (q := 3) rfl (by decide) (zcat_rf a3) (lv' := [(0, va_rf a1), (1, .int a2), (2, va_rf a3)]) rfl dX0_append_12 ?_
    refine zs_iconst hE (v := (1 : Int32)) (by decide) dX0_append_13 ?_
    exact zs_iret hE dX0_append_14
  · have hE := zE_q q2 4 hE
    have hq := zqin_q (x := x) q2 4
    refine zs_astore_n hE (i := 3) (q := 3) rfl (by decide) (zcat_rf a3) (lv' := [(0, va_rf a1), (1, .int a2), (2, va_rf a3)]) rfl dX0_append_15 ?_
    refine zs_iconst hE (v := (2 : Int32)) (by decide) dX0_append_16 ?_
    exact zs_iret hE dX0_append_17
  · show zS _ 7 _ [.int r3, .int (0 : Int32), va_rf a3] _
    refine zs_i2l hE dX0_append_7 ?_
    refine zs_astJ hE dX0_append_8 ?_
    refine zs_goto hE 18 (by decide) dX0_append_9 ?_
    refine zs_iconst hE (v := (0 : Int32)) (by decide) dX0_append_18 ?_
    exact zs_iret hE dX0_append_19
theorem hd_X0_append : (yX0_append).cls ≠ "java/lang/invoke/MethodHandle" ∧ (yX0_append).cls ≠ "java/lang/invoke/VarHandle" ∧ (parseMethodDescriptor (yX0_append).desc).map (fun d => d.parameters.length) = some 3 := by decide +kernel
theorem met_X0_append (K : ZK) (a1 : Option Nat) (a2 : Int32) (a3 : Option Nat) : zMeth K yX0_append (zwsW yX0_append cX0_append 4 (Option.some Jvm.ClassFile.FieldType.int) [((0 : Nat), (9 : Nat), (12 : Nat), (41 : Nat)), ((0 : Nat), (9 : Nat), (15 : Nat), (104 : Nat))]) 8 255 [va_rf a1, .int a2, va_rf a3] encI (s_X0_append K a1 a2 a3) :=
  fun l G hl hK => zmet_ofH hl hK (by decide +kernel) rfl rfl (by simp [zsl_nil, zsl_rf, zsl_r, zsl_i, zsl_j, zsl_f, zsl_d]) (fun x hE => by simp only [zla_nil, zla_rf, zla_r, zla_i, zla_j, zla_f, zla_d, Nat.reduceAdd]; exact sm_X0_append hE a1 a2 a3)
theorem sm_J4_getValue__J5 {x : ZX (Option Nat)} {K : ZK} (hE : zE x K cJ4_getValue RJ4 "getValue" 1 1 100 encR (Option.some (Jvm.ClassFile.FieldType.array Jvm.ClassFile.FieldType.byte)) []) (this : Nat) : zS x 0 [(0, va_rf (some this))] [] (s_J4_getValue__J5 K this) := by
  unfold s_J4_getValue__J5
  refine zs_aload_n hE 0 rfl rfl dJ4_getValue_0 ?_
  refine zs_getR hE (ci := 21) (k := 0) rfl (by decide) in_J5 (Or.inl q376) (Or.inl rfl) dJ4_getValue_1 (fun v1 => ?_)
  exact zs_aret hE (Or.inr ⟨_, rfl⟩) dJ4_getValue_4
theorem hd_J4_getValue__J5 : (yJ4_getValue).cls ≠ "java/lang/invoke/MethodHandle" ∧ (yJ4_getValue).cls ≠ "java/lang/invoke/VarHandle" ∧ (parseMethodDescriptor (yJ4_getValue).desc).map (fun d => d.parameters.length) = some 0 := by decide +kernel
theorem met_J4_getValue__J5 (K : ZK) (this : Nat) : zMeth K yJ4_getValue (zws yJ4_getValue cJ4_getValue 1 (Option.some (Jvm.ClassFile.FieldType.array Jvm.ClassFile.FieldType.byte))) 1 100 [.ref this] encR (s_J4_getValue__J5 K this) :=
  fun l G hl hK => zmet_of hl hK (by decide +kernel) rfl rfl (by simp [zsl_nil, zsl_rf, zsl_r, zsl_i, zsl_j, zsl_f, zsl_d]) (fun x hE => by simp only [zla_nil, zla_rf, zla_r, zla_i, zla_j, zla_f, zla_d, Nat.reduceAdd]; exact sm_J4_getValue__J5 hE this)
theorem sm_J32_checkLength {x : ZX Unit} {K : ZK} (hE : zE x K cJ32_checkLength RJ32 "checkLength" 2 1 100 encV none []) (a1 : Int32) (a2 : Int32) : zS x 0 [(0, .int a1), (1, .int a2)] [] (s_J32_checkLength K a1 a2) := by
  unfold s_J32_checkLength
  refine zs_iload_n hE 1 rfl rfl dJ32_checkLength_0 ?_
  refine zs_iload_n hE 0 rfl rfl dJ32_checkLength_1 ?_
  refine zs_icmp_ge hE 37 (by decide) dJ32_checkLength_2 ?_ ?_
  · exact zs_vret hE dJ32_checkLength_37
  · exact zs_bad
theorem hd_J32_checkLength : (yJ32_checkLength).cls ≠ "java/lang/invoke/MethodHandle" ∧ (yJ32_checkLength).cls ≠ "java/lang/invoke/VarHandle" ∧ (parseMethodDescriptor (yJ32_checkLength).desc).map (fun d => d.parameters.length) = some 2 := by decide +kernel
theorem met_J32_checkLength (K : ZK) (a1 : Int32) (a2 : Int32) : zMeth K yJ32_checkLength (zws yJ32_checkLength cJ32_checkLength 2 none) 1 100 [.int a1, .int a2] encV (s_J32_checkLength K a1 a2) :=
  fun l G hl hK => zmet_of hl hK (by decide +kernel) rfl rfl (by simp [zsl_nil, zsl_rf, zsl_r, zsl_i, zsl_j, zsl_f, zsl_d]) (fun x hE => by simp only [zla_nil, zla_rf, zla_r, zla_i, zla_j, zla_f, zla_d, Nat.reduceAdd]; exact sm_J32_checkLength hE a1 a2)
theorem sm_J32_copyOfRangeByte {x : ZX (Option Nat)} {K : ZK} (hE : zE x K cJ32_copyOfRangeByte RJ32 "copyOfRangeByte" 5 2 121 encR (Option.some (Jvm.ClassFile.FieldType.array Jvm.ClassFile.FieldType.byte)) []) (a1 : Option Nat) (a2 : Int32) (a3 : Int32) : zS x 0 [(0, va_rf a1), (1, .int a2), (2, .int a3)] [] (s_J32_copyOfRangeByte K a1 a2 a3) := by
  unfold s_J32_copyOfRangeByte
  refine zs_iload_n hE 1 rfl rfl dJ32_copyOfRangeByte_0 ?_
  refine zs_iload_n hE 2 rfl rfl dJ32_copyOfRangeByte_1 ?_
  refine zs_callS hE (As := [.int a2, .int a3]) (encA := encV) (met_J32_checkLength K a2 a3) q1284 q134 q1282 q1283 hd_J32_checkLength (by decide) (by decide) rfl (by simp [zcat_rf, zcat_i, zcat_j, zcat_f, zcat_d]) (fun z hz => by cases hz) dJ32_copyOfRangeByte_2 (fun _ => ?_)
  show zS _ 5 _ [] _
  refine zs_iload_n hE 2 rfl rfl dJ32_copyOfRangeByte_5 ?_
  refine zs_iload_n hE 1 rfl rfl dJ32_copyOfRangeByte_6 ?_
  refine zs_isub hE dJ32_copyOfRangeByte_7 ?_
  refine zs_istore_n hE (i := 3) (q := 3) rfl (by decide) (rfl) (lv' := [(0, va_rf a1), (1, .int a2), (2, .int a3)]) rfl dJ32_copyOfRangeByte_8 ?_
  refine zs_iload_n hE 0 rfl rfl dJ32_copyOfRangeByte_9 ?_
  refine zs_newA hE 3 (at0 := .byte) q390 rfl rfl (by decide) (fun _ _ h => h) (fun _ => rfl) (by decide) dJ32_copyOfRangeByte_10 (fun q1 => ?_)
  refine zs_astore hE (i := 4) (by decide) (rfl) (lv' := [(3, .int (a3 - a2)), (0, va_rf a1), (1, .int a2), (2, .int a3)]) rfl dJ32_copyOfRangeByte_12 ?_
  refine zs_aload_n hE 2 rfl rfl dJ32_copyOfRangeByte_14 ?_
  refine zs_iload_n hE 3 rfl rfl dJ32_copyOfRangeByte_15 ?_
  refine zs_aload hE 0 rfl dJ32_copyOfRangeByte_16 ?_
  refine zs_iconst hE (v := (0 : Int32)) (by decide) dJ32_copyOfRangeByte_18 ?_
  refine zs_aload_n hE 2 rfl rfl dJ32_copyOfRangeByte_19 ?_
  refine zs_len hE (t := 3) rfl dJ32_copyOfRangeByte_20 (fun v2 => ?_)
  refine zs_iload_n hE 3 rfl rfl dJ32_copyOfRangeByte_21 ?_
  refine zs_isub hE dJ32_copyOfRangeByte_22 ?_
  refine zs_iload_n hE 1 rfl rfl dJ32_copyOfRangeByte_23 ?_
  refine zs_callS hE (As := [.int (v2 - a2), .int (a3 - a2)]) (encA := encI) (met_J16_min K (v2 - a2) (a3 - a2)) q568 q116 q1170 q567 hd_J16_min (by decide) (by decide) rfl (by simp [zcat_rf, zcat_i, zcat_j, zcat_f, zcat_d]) (fun z hz => by cases hz) dJ32_copyOfRangeByte_24 (fun r3 => ?_)
  show zS _ 27 _ [.int r3, .int (0 : Int32), va_rf (some q1), .int a2, va_rf a1] _
  refine zs_copyB hE q1171 q1173 q1172 q135 (by decide) (by decide) dJ32_copyOfRangeByte_27 ?_
  refine zs_aload hE 0 rfl dJ32_copyOfRangeByte_30 ?_
  exact zs_aret hE (Or.inr ⟨_, rfl⟩) dJ32_copyOfRangeByte_32
theorem hd_J32_copyOfRangeByte : (yJ32_copyOfRangeByte).cls ≠ "java/lang/invoke/MethodHandle" ∧ (yJ32_copyOfRangeByte).cls ≠ "java/lang/invoke/VarHandle" ∧ (parseMethodDescriptor (yJ32_copyOfRangeByte).desc).map (fun d => d.parameters.length) = some 3 := by decide +kernel
theorem met_J32_copyOfRangeByte (K : ZK) (a1 : Option Nat) (a2 : Int32) (a3 : Int32) : zMeth K yJ32_copyOfRangeByte (zws yJ32_copyOfRangeByte cJ32_copyOfRangeByte 5 (Option.some (Jvm.ClassFile.FieldType.array Jvm.ClassFile.FieldType.byte))) 2 121 [va_rf a1, .int a2, .int a3] encR (s_J32_copyOfRangeByte K a1 a2 a3) :=
  fun l G hl hK => zmet_of hl hK (by decide +kernel) rfl rfl (by simp [zsl_nil, zsl_rf, zsl_r, zsl_i, zsl_j, zsl_f, zsl_d]) (fun x hE => by simp only [zla_nil, zla_rf, zla_r, zla_i, zla_j, zla_f, zla_d, Nat.reduceAdd]; exact sm_J32_copyOfRangeByte hE a1 a2 a3)
theorem sm_J32_copyOfRange_J10 {x : ZX (Option Nat)} {K : ZK} (hE : zE x K cJ32_copyOfRange RJ32 "copyOfRange" 3 3 145 encR (Option.some (Jvm.ClassFile.FieldType.array Jvm.ClassFile.FieldType.byte)) []) (x0 : Option Nat) (x1 : Int32) (x2 : Int32) : zS x 10 [(0, va_rf x0), (1, .int x1), (2, .int x2)] [] (s_J32_copyOfRange_J10 K x0 x1 x2) := by
  unfold s_J32_copyOfRange_J10
  refine zs_aload_n hE 0 rfl rfl dJ32_copyOfRange_10 ?_
  refine zs_iload_n hE 1 rfl rfl dJ32_copyOfRange_11 ?_
  refine zs_iload_n hE 2 rfl rfl dJ32_copyOfRange_12 ?_
  refine zs_callS hE (As := [va_rf x0, .int x1, .int x2]) (encA := encR) (met_J32_copyOfRangeByte K x0 x1 x2) q1281 q134 q1279 q1280 hd_J32_copyOfRangeByte (by decide) (by decide) rfl (by simp [zcat_rf, zcat_i, zcat_j, zcat_f, zcat_d]) (fun z hz => by cases hz) dJ32_copyOfRange_13 (fun r2 => ?_)
  show zS _ 16 _ [va_rf r2] _
  exact zs_aret hE (Or.inr ⟨_, rfl⟩) dJ32_copyOfRange_16
theorem sm_J32_copyOfRange {x : ZX (Option Nat)} {K : ZK} (hE : zE x K cJ32_copyOfRange RJ32 "copyOfRange" 3 3 145 encR (Option.some (Jvm.ClassFile.FieldType.array Jvm.ClassFile.FieldType.byte)) []) (a1 : Option Nat) (a2 : Int32) (a3 : Int32) : zS x 0 [(0, va_rf a1), (1, .int a2), (2, .int a3)] [] (s_J32_copyOfRange K a1 a2 a3) := by
  unfold s_J32_copyOfRange
  refine zs_iload_n hE 1 rfl rfl dJ32_copyOfRange_0 ?_
  refine zs_if_ne hE 10 (by decide) dJ32_copyOfRange_1 ?_ ?_
  · refine zs_iload_n hE 2 rfl rfl dJ32_copyOfRange_4 ?_
    refine zs_aload_n hE 0 rfl rfl dJ32_copyOfRange_5 ?_
    refine zs_len hE (t := 3) rfl dJ32_copyOfRange_6 (fun v1 => ?_)
    refine zs_icmp_eq hE 17 (by decide) dJ32_copyOfRange_7 ?_ ?_
    · refine zs_aload_n hE 0 rfl rfl dJ32_copyOfRange_17 ?_
      exact zs_bad
    · exact sm_J32_copyOfRange_J10 hE a1 a2 a3
  · exact sm_J32_copyOfRange_J10 hE a1 a2 a3
theorem hd_J32_copyOfRange : (yJ32_copyOfRange).cls ≠ "java/lang/invoke/MethodHandle" ∧ (yJ32_copyOfRange).cls ≠ "java/lang/invoke/VarHandle" ∧ (parseMethodDescriptor (yJ32_copyOfRange).desc).map (fun d => d.parameters.length) = some 3 := by decide +kernel
theorem met_J32_copyOfRange (K : ZK) (a1 : Option Nat) (a2 : Int32) (a3 : Int32) : zMeth K yJ32_copyOfRange (zws yJ32_copyOfRange cJ32_copyOfRange 3 (Option.some (Jvm.ClassFile.FieldType.array Jvm.ClassFile.FieldType.byte))) 3 145 [va_rf a1, .int a2, .int a3] encR (s_J32_copyOfRange K a1 a2 a3) :=
  fun l G hl hK => zmet_of hl hK (by decide +kernel) rfl rfl (by simp [zsl_nil, zsl_rf, zsl_r, zsl_i, zsl_j, zsl_f, zsl_d]) (fun x hE => by simp only [zla_nil, zla_rf, zla_r, zla_i, zla_j, zla_f, zla_d, Nat.reduceAdd]; exact sm_J32_copyOfRange hE a1 a2 a3)
theorem sm_J6_init_2_J79 {x : ZX Unit} {K : ZK} (hE : zE x K cJ6_init_2 RJ6 "<init>" 5 4 167 encV none []) (x0 : Nat) (x3 : Option Nat) (x4 : Int32) : zS x 79 [(0, va_rf (some x0)), (3, va_rf x3), (4, .int x4)] [] (s_J6_init_2_J79 K x0 x3 x4) := by
  unfold s_J6_init_2_J79
  refine zs_aload_n hE 0 rfl rfl dJ6_init_2_79 ?_
  refine zs_iconst hE (v := (1 : Int32)) (by decide) dJ6_init_2_80 ?_
  refine zs_putT hE (ci := 22) (k := 1) rfl (by decide) in_J6 (Or.inl q1325) (Or.inl rfl) (Or.inr ⟨rfl, rfl, rfl⟩) (fun _ => q1325) rfl dJ6_init_2_81 ?_
  refine zs_aload_n hE 0 rfl rfl dJ6_init_2_84 ?_
  refine zs_aload_n hE 1 rfl rfl dJ6_init_2_85 ?_
  refine zs_iconst hE (v := (0 : Int32)) (by decide) dJ6_init_2_86 ?_
  refine zs_iload hE 2 rfl dJ6_init_2_87 ?_
  refine zs_iconst hE (v := (1 : Int32)) (by decide) dJ6_init_2_89 ?_
  refine zs_ishl hE dJ6_init_2_90 ?_
  refine zs_callS hE (As := [va_rf x3, .int (0 : Int32), .int (x4 <<< ((1 : Int32) &&& 31))]) (encA := encR) (met_J32_copyOfRange K x3 (0 : Int32) (x4 <<< ((1 : Int32) &&& 31))) q1278 q134 q1276 q1277 hd_J32_copyOfRange (by decide) (by decide) rfl (by simp [zcat_rf, zcat_i, zcat_j, zcat_f, zcat_d]) (fun z hz => by cases hz) dJ6_init_2_91 (fun r5 => ?_)
  show zS _ 94 _ [va_rf r5, va_rf (some x0)] _
  refine zs_putR hE (ci := 22) (k := 0) rfl (by decide) in_J6 (Or.inl q1324) (Or.inl rfl) (Or.inr ⟨rfl, rfl, rfl⟩) (fun _ => q1324) (tyJ6_ok 0 (by decide)) (Or.inr ⟨_, rfl⟩) dJ6_init_2_94 ?_
  exact zs_vret hE dJ6_init_2_97
theorem sm_J6_init_2 {x : ZX Unit} {K : ZK} (hE : zE x K cJ6_init_2 RJ6 "<init>" 5 4 167 encV none []) (this : Nat) (a1 : Option Nat) (a2 : Option Nat) : zS x 0 [(0, va_rf (some this)), (1, va_rf a1), (2, va_rf a2)] [] (s_J6_init_2 K this a1 a2) := by
  unfold s_J6_init_2
  refine zs_aload_n hE 0 rfl rfl dJ6_init_2_0 ?_
  refine zs_objInit hE q1261 q169 q170 (by decide) (by first | decide | simp [zcat_rf, zcat_i, zcat_j, zcat_f, zcat_d]) dJ6_init_2_1 ?_
  refine zs_aload_n hE 1 rfl rfl dJ6_init_2_4 ?_
  refine zs_callV hE (As := []) (encA := encR) (ci := 21) rfl (fun y0 => met_J4_getValue__J5 K y0) q1266 q101 q1262 q1263 (zq q1265) hd_J4_getValue__J5 (by decide) (by decide) rfl (by simp [zcat_rf, zcat_i, zcat_j, zcat_f, zcat_d]) (fun z hz => by cases hz) dJ6_init_2_5 (fun r1 => ?_)
  show zS _ 8 _ [va_rf r1] _
  refine zs_astore_n hE (i := 3) (q := 3) rfl (by decide) (zcat_rf a2) (lv' := [(0, va_rf (some this)), (1, va_rf a1), (2, va_rf a2)]) rfl dJ6_init_2_8 ?_
  refine zs_aload_n hE 2 rfl rfl dJ6_init_2_9 ?_
  refine zs_callU hE (xx := ⟨"java/lang/AbstractStringBuilder", "length", "()I"⟩) (owner := "java/lang/AbstractStringBuilder") (As := []) (encA := encI) (ci := 21) rfl (fun y0 => met_J5_length K y0) q1272 q102 q1267 q1269 (Or.inr ⟨_, _, _, q1274, q1268⟩) (by decide) q1271 q1270 ⟨(hd_J5_length).1, (hd_J5_length).2.1, (hdx_h13).2.2⟩ (by decide) (by decide) rfl (by simp [zcat_rf, zcat_i, zcat_j, zcat_f, zcat_d]) (fun z hz => by cases hz) dJ6_init_2_10 (fun r2 => ?_)
  show zS _ 13 _ [.int r2] _
  refine zs_istore hE (i := 4) (by decide) (zcat_rf r1) (lv' := [(3, va_rf r1), (0, va_rf (some this)), (1, va_rf a1), (2, va_rf a2)]) rfl dJ6_init_2_13 ?_
  refine zs_aload_n hE 3 rfl rfl dJ6_init_2_15 ?_
  refine zs_callV hE (As := []) (encA := encI) (ci := 21) rfl (fun y0 => met_J4_isLatin1__J5 K y0) q728 q101 q1275 q725 (zq q727) hd_J4_isLatin1__J5 (by decide) (by decide) rfl (by simp [zcat_rf, zcat_i, zcat_j, zcat_f, zcat_d]) (fun z hz => by cases hz) dJ6_init_2_16 (fun r3 => ?_)
  show zS _ 19 _ [.int r3] _
  refine zs_if_eq hE 41 (by decide) dJ6_init_2_19 ?_ ?_
  · refine zs_gets hE (C := "java/lang/String") (v := .int (1 : Int32)) (by simp [zST]) q559 (Or.inl rfl) dJ6_init_2_41 ?_
    refine zs_if_eq hE 79 (by decide) dJ6_init_2_44 ?_ ?_
    · exact zs_bad
    · refine zs_aload_n hE 3 rfl rfl dJ6_init_2_47 ?_
      refine zs_getI hE (ci := 21) (k := 2) rfl (by decide) in_J5 (Or.inl q379) (Or.inl rfl) dJ6_init_2_48 (fun v4 => ?_)
      refine zs_if_eq hE 79 (by decide) dJ6_init_2_51 ?_ ?_
      · refine zs_sub [2, 1, 0] rfl ?_
        exact sm_J6_init_2_J79 hE this r1 r2
      · refine zs_aload_n hE 2 rfl rfl dJ6_init_2_54 ?_
        refine zs_aload_n hE 1 rfl rfl dJ6_init_2_55 ?_
        refine zs_iconst hE (v := (0 : Int32)) (by decide) dJ6_init_2_56 ?_
        refine zs_iload hE 0 rfl dJ6_init_2_57 ?_
        exact zs_bad
  · refine zs_aload_n hE 2 rfl rfl dJ6_init_2_22 ?_
    refine zs_iconst hE (v := (0 : Int32)) (by decide) dJ6_init_2_23 ?_
    refine zs_putT hE (ci := 22) (k := 1) rfl (by decide) in_J6 (Or.inl q1325) (Or.inl rfl) (Or.inr ⟨rfl, rfl, rfl⟩) (fun _ => q1325) rfl dJ6_init_2_24 ?_
    refine zs_aload_n hE 2 rfl rfl dJ6_init_2_27 ?_
    refine zs_aload_n hE 1 rfl rfl dJ6_init_2_28 ?_
    refine zs_iconst hE (v := (0 : Int32)) (by decide) dJ6_init_2_29 ?_
    refine zs_iload hE 0 rfl dJ6_init_2_30 ?_
    refine zs_callS hE (As := [va_rf r1, .int (0 : Int32), .int r2]) (encA := encR) (met_J32_copyOfRange K r1 (0 : Int32) r2) q1278 q134 q1276 q1277 hd_J32_copyOfRange (by decide) (by decide) rfl (by simp [zcat_rf, zcat_i, zcat_j, zcat_f, zcat_d]) (fun z hz => by cases hz) dJ6_init_2_32 (fun r6 => ?_)
    show zS _ 35 _ [va_rf r6, va_rf (some this)] _
    refine zs_putR hE (ci := 22) (k := 0) rfl (by decide) in_J6 (Or.inl q1324) (Or.inl rfl) (Or.inr ⟨rfl, rfl, rfl⟩) (fun _ => q1324) (tyJ6_ok 0 (by decide)) (Or.inr ⟨_, rfl⟩) dJ6_init_2_35 ?_
    refine zs_goto hE 97 (by decide) dJ6_init_2_38 ?_
    exact zs_vret hE dJ6_init_2_97
theorem hd_J6_init_2 : (yJ6_init_2).cls ≠ "java/lang/invoke/MethodHandle" ∧ (yJ6_init_2).cls ≠ "java/lang/invoke/VarHandle" ∧ (parseMethodDescriptor (yJ6_init_2).desc).map (fun d => d.parameters.length) = some 2 := by decide +kernel
theorem met_J6_init_2 (K : ZK) (this : Nat) (a1 : Option Nat) (a2 : Option Nat) : zMeth K yJ6_init_2 (zws yJ6_init_2 cJ6_init_2 5 none) 4 167 [.ref this, va_rf a1, va_rf a2] encV (s_J6_init_2 K this a1 a2) :=
  fun l G hl hK => zmet_of hl hK (by decide +kernel) rfl rfl (by simp [zsl_nil, zsl_rf, zsl_r, zsl_i, zsl_j, zsl_f, zsl_d]) (fun x hE => by simp only [zla_nil, zla_rf, zla_r, zla_i, zla_j, zla_f, zla_d, Nat.reduceAdd]; exact sm_J6_init_2 hE this a1 a2)
theorem sm_J6_init {x : ZX Unit} {K : ZK} (hE : zE x K cJ6_init RJ6 "<init>" 2 5 191 encV none []) (this : Nat) (a1 : Option Nat) : zS x 0 [(0, va_rf (some this)), (1, va_rf a1)] [] (s_J6_init K this a1) := by
  unfold s_J6_init
  refine zs_aload_n hE 0 rfl rfl dJ6_init_0 ?_
  refine zs_aload_n hE 1 rfl rfl dJ6_init_1 ?_
  refine zs_null hE dJ6_init_2 ?_
  refine zs_callI hE (As := [va_rf a1, va_rf none]) (encA := encV) (met_J6_init_2 K this a1 none) q1260 q103 q1258 q1259 rfl hd_J6_init_2 (by decide) (by decide) rfl (by simp [zcat_rf, zcat_i, zcat_j, zcat_f, zcat_d]) (fun z hz => by cases hz) dJ6_init_3 (fun _ => ?_)
  show zS _ 6 _ [] _
  exact zs_vret hE dJ6_init_6
theorem hd_J6_init : (yJ6_init).cls ≠ "java/lang/invoke/MethodHandle" ∧ (yJ6_init).cls ≠ "java/lang/invoke/VarHandle" ∧ (parseMethodDescriptor (yJ6_init).desc).map (fun d => d.parameters.length) = some 1 := by decide +kernel
theorem met_J6_init (K : ZK) (this : Nat) (a1 : Option Nat) : zMeth K yJ6_init (zws yJ6_init cJ6_init 2 none) 5 191 [.ref this, va_rf a1] encV (s_J6_init K this a1) :=
  fun l G hl hK => zmet_of hl hK (by decide +kernel) rfl rfl (by simp [zsl_nil, zsl_rf, zsl_r, zsl_i, zsl_j, zsl_f, zsl_d]) (fun x hE => by simp only [zla_nil, zla_rf, zla_r, zla_i, zla_j, zla_f, zla_d, Nat.reduceAdd]; exact sm_J6_init hE this a1)
theorem sm_J5_toString {x : ZX (Option Nat)} {K : ZK} (hE : zE x K cJ5_toString RJ5 "toString" 1 6 212 encR (Option.some (Jvm.ClassFile.FieldType.object "java/lang/String")) []) (this : Nat) : zS x 0 [(0, va_rf (some this))] [] (s_J5_toString K this) := by
  unfold s_J5_toString
  refine zs_new hE (ci := 22) (fs := [.null, .int 0, .int 0, .int 0]) rfl in_J6 tyJ6 tyJ6_ok q1253 q1254 q103 (fun j hj => by rcases (show j = 0 ∨ j = 1 ∨ j = 2 ∨ j = 3 by omega) with rfl | rfl | rfl | rfl <;> rfl) dJ5_toString_0 (fun q1 => ?_)
  refine zs_dup hE (zcat_rf _) dJ5_toString_3 ?_
  refine zs_aload_n hE 0 rfl rfl dJ5_toString_4 ?_
  refine zs_callI hE (As := [va_rf (some this)]) (encA := encV) (met_J6_init K q1 (some this)) q1257 q103 q1255 q1256 rfl hd_J6_init (by decide) (by decide) rfl (by simp [zcat_rf, zcat_i, zcat_j, zcat_f, zcat_d]) (fun z hz => by cases hz) dJ5_toString_5 (fun _ => ?_)
  show zS _ 8 _ [va_rf (some q1)] _
  exact zs_aret hE (Or.inl ⟨_, rfl⟩) dJ5_toString_8
theorem hd_J5_toString : (yJ5_toString).cls ≠ "java/lang/invoke/MethodHandle" ∧ (yJ5_toString).cls ≠ "java/lang/invoke/VarHandle" ∧ (parseMethodDescriptor (yJ5_toString).desc).map (fun d => d.parameters.length) = some 0 := by decide +kernel
theorem met_J5_toString (K : ZK) (this : Nat) : zMeth K yJ5_toString (zws yJ5_toString cJ5_toString 1 (Option.some (Jvm.ClassFile.FieldType.object "java/lang/String"))) 6 212 [.ref this] encR (s_J5_toString K this) :=
  fun l G hl hK => zmet_of hl hK (by decide +kernel) rfl rfl (by simp [zsl_nil, zsl_rf, zsl_r, zsl_i, zsl_j, zsl_f, zsl_d]) (fun x hE => by simp only [zla_nil, zla_rf, zla_r, zla_i, zla_j, zla_f, zla_d, Nat.reduceAdd]; exact sm_J5_toString hE this)
theorem sm_X12_init {x : ZX Unit} {K : ZK} (hE : zE x K cX12_init RX12 "<init>" 3 4 160 encV none []) (this : Nat) (a1 : Option Nat) (a2 : Option Nat) : zS x 0 [(0, va_rf (some this)), (1, va_rf a1), (2, va_rf a2)] [] (s_X12_init K this a1 a2) := by
  unfold s_X12_init
  refine zs_aload_n hE 0 rfl rfl dX12_init_0 ?_
  refine zs_aload_n hE 1 rfl rfl dX12_init_1 ?_
  refine zs_putR hE (ci := 27) (k := 4) rfl (by decide) in_X12 (Or.inl q2478) (Or.inl rfl) (Or.inr ⟨rfl, rfl, rfl⟩) (fun _ => q2478) (tyX12_ok 4 (by decide)) (Or.inl ⟨_, rfl⟩) dX12_init_2 ?_
  refine zs_aload_n hE 0 rfl rfl dX12_init_5 ?_
  refine zs_objInit hE q2468 q169 q170 (by decide) (by first | decide | simp [zcat_rf, zcat_i, zcat_j, zcat_f, zcat_d]) dX12_init_6 ?_
  refine zs_aload_n hE 0 rfl rfl dX12_init_9 ?_
  refine zs_new hE (ci := 11) (fs := [.int 0, .null, .int 0]) rfl in_J31 tyJ31 tyJ31_ok q2469 q1521 q133 (fun j hj => by rcases (show j = 0 ∨ j = 1 ∨ j = 2 by omega) with rfl | rfl | rfl <;> rfl) dX12_init_10 (fun q1 => ?_)
  refine zs_dup hE (zcat_rf _) dX12_init_13 ?_
  refine zs_callI hE (As := []) (encA := encV) (met_J31_init K q1) q1524 q133 q2470 q1523 rfl hd_J31_init (by decide) (by decide) rfl (by simp [zcat_rf, zcat_i, zcat_j, zcat_f, zcat_d]) (fun z hz => by cases hz) dX12_init_14 (fun _ => ?_)
  show zS _ 17 _ [va_rf (some q1), va_rf (some this)] _
  refine zs_putR hE (ci := 27) (k := 1) rfl (by decide) in_X12 (Or.inl q2472) (Or.inl rfl) (Or.inr ⟨rfl, rfl, rfl⟩) (fun _ => q2472) (tyX12_ok 1 (by decide)) (Or.inl ⟨_, rfl⟩) dX12_init_17 ?_
  refine zs_aload_n hE 0 rfl rfl dX12_init_20 ?_
  refine zs_aload_n hE 2 rfl rfl dX12_init_21 ?_
  refine zs_putR hE (ci := 27) (k := 0) rfl (by decide) in_X12 (Or.inl q2471) (Or.inl rfl) (Or.inr ⟨rfl, rfl, rfl⟩) (fun _ => q2471) (tyX12_ok 0 (by decide)) (Or.inl ⟨_, rfl⟩) dX12_init_22 ?_
  exact zs_vret hE dX12_init_25
theorem hd_X12_init : (yX12_init).cls ≠ "java/lang/invoke/MethodHandle" ∧ (yX12_init).cls ≠ "java/lang/invoke/VarHandle" ∧ (parseMethodDescriptor (yX12_init).desc).map (fun d => d.parameters.length) = some 2 := by decide +kernel
theorem met_X12_init (K : ZK) (this : Nat) (a1 : Option Nat) (a2 : Option Nat) : zMeth K yX12_init (zws yX12_init cX12_init 3 none) 4 160 [.ref this, va_rf a1, va_rf a2] encV (s_X12_init K this a1 a2) :=
  fun l G hl hK => zmet_of hl hK (by decide +kernel) rfl rfl (by simp [zsl_nil, zsl_rf, zsl_r, zsl_i, zsl_j, zsl_f, zsl_d]) (fun x hE => by simp only [zla_nil, zla_rf, zla_r, zla_i, zla_j, zla_f, zla_d, Nat.reduceAdd]; exact sm_X12_init hE this a1 a2)
theorem sm_J32_rangeCheck {x : ZX Unit} {K : ZK} (hE : zE x K cJ32_rangeCheck RJ32 "rangeCheck" 3 1 100 encV none []) (a1 : Int32) (a2 : Int32) (a3 : Int32) : zS x 0 [(0, .int a1), (1, .int a2), (2, .int a3)] [] (s_J32_rangeCheck K a1 a2 a3) := by
  unfold s_J32_rangeCheck
  refine zs_iload_n hE 1 rfl rfl dJ32_rangeCheck_0 ?_
  refine zs_iload_n hE 2 rfl rfl dJ32_rangeCheck_1 ?_
  refine zs_icmp_le hE 46 (by decide) dJ32_rangeCheck_2 ?_ ?_
  · refine zs_iload_n hE 1 rfl rfl dJ32_rangeCheck_46 ?_
    refine zs_if_ge hE 59 (by decide) dJ32_rangeCheck_47 ?_ ?_
    · refine zs_iload_n hE 2 rfl rfl dJ32_rangeCheck_59 ?_
      refine zs_iload_n hE 0 rfl rfl dJ32_rangeCheck_60 ?_
      refine zs_icmp_le hE 73 (by decide) dJ32_rangeCheck_61 ?_ ?_
      · exact zs_vret hE dJ32_rangeCheck_73
      · exact zs_bad
    · exact zs_bad
  · exact zs_bad
theorem hd_J32_rangeCheck : (yJ32_rangeCheck).cls ≠ "java/lang/invoke/MethodHandle" ∧ (yJ32_rangeCheck).cls ≠ "java/lang/invoke/VarHandle" ∧ (parseMethodDescriptor (yJ32_rangeCheck).desc).map (fun d => d.parameters.length) = some 3 := by decide +kernel
theorem met_J32_rangeCheck (K : ZK) (a1 : Int32) (a2 : Int32) (a3 : Int32) : zMeth K yJ32_rangeCheck (zws yJ32_rangeCheck cJ32_rangeCheck 3 none) 1 100 [.int a1, .int a2, .int a3] encV (s_J32_rangeCheck K a1 a2 a3) :=
  fun l G hl hK => zmet_of hl hK (by decide +kernel) rfl rfl (by simp [zsl_nil, zsl_rf, zsl_r, zsl_i, zsl_j, zsl_f, zsl_d]) (fun x hE => by simp only [zla_nil, zla_rf, zla_r, zla_i, zla_j, zla_f, zla_d, Nat.reduceAdd]; exact sm_J32_rangeCheck hE a1 a2 a3)
theorem sm_J32_fill_B10 {x : ZX Unit} {K : ZK} (hE : zE x K cJ32_fill RJ32 "fill" 5 2 122 encV none []) (x0 : Option Nat) (x2 : Int32) (x3 : Int32) (self10 : Int32 → ZP Unit) (hs10 : ∀ v : Int32, zS x 10 [(0, va_rf x0), (2, .int x2), (3, .int x3), (4, .int v)] [] (self10 v)) (x4 : Int32) : zS x 10 [(0, va_rf x0), (2, .int x2), (3, .int x3), (4, .int x4)] [] (s_J32_fill_B10 K x0 x2 x3 self10 x4) := by
  unfold s_J32_fill_B10
  refine zs_iload hE 3 rfl dJ32_fill_10 ?_
  refine zs_iload_n hE 1 rfl rfl dJ32_fill_12 ?_
  refine zs_icmp_ge hE 27 (by decide) dJ32_fill_13 ?_ ?_
  · exact zs_vret hE dJ32_fill_27
  · refine zs_aload_n hE 0 rfl rfl dJ32_fill_16 ?_
    refine zs_iload hE 3 rfl dJ32_fill_17 ?_
    refine zs_iload_n hE 2 rfl rfl dJ32_fill_19 ?_
    refine zs_astB hE dJ32_fill_20 ?_
    refine zs_iinc hE 3 (v := (1 : Int32)) rfl (by decide) (by decide) (rfl) (lv' := [(0, va_rf x0), (2, .int x2), (3, .int x3)]) rfl dJ32_fill_21 ?_
    refine zs_goto hE 10 (by decide) dJ32_fill_24 ?_
    refine zs_sub [1, 2, 3, 0] rfl ?_
    exact hs10 (x4 + (1 : Int32))
theorem sm_J32_fill_L10 {x : ZX Unit} {K : ZK} (hE : zE x K cJ32_fill RJ32 "fill" 5 2 122 encV none []) (x0 : Option Nat) (x2 : Int32) (x3 : Int32) (v : Int32) : zS x 10 [(0, va_rf x0), (2, .int x2), (3, .int x3), (4, .int v)] [] (s_J32_fill_L10 K x0 x2 x3 v) := by
  unfold s_J32_fill_L10
  exact zs_loop (lvf := fun v => [(0, va_rf x0), (2, .int x2), (3, .int x3), (4, .int v)]) (fun self10 hs10 v => sm_J32_fill_B10 hE x0 x2 x3 self10 hs10 v) v
theorem sm_J32_fill {x : ZX Unit} {K : ZK} (hE : zE x K cJ32_fill RJ32 "fill" 5 2 122 encV none []) (a1 : Option Nat) (a2 : Int32) (a3 : Int32) (a4 : Int32) : zS x 0 [(0, va_rf a1), (1, .int a2), (2, .int a3), (3, .int a4)] [] (s_J32_fill K a1 a2 a3 a4) := by
  unfold s_J32_fill
  refine zs_aload_n hE 0 rfl rfl dJ32_fill_0 ?_
  refine zs_len hE (t := 3) rfl dJ32_fill_1 (fun v1 => ?_)
  refine zs_iload_n hE 1 rfl rfl dJ32_fill_2 ?_
  refine zs_iload_n hE 2 rfl rfl dJ32_fill_3 ?_
  refine zs_callS hE (As := [.int v1, .int a2, .int a3]) (encA := encV) (met_J32_rangeCheck K v1 a2 a3) q1354 q134 q1352 q1353 hd_J32_rangeCheck (by decide) (by decide) rfl (by simp [zcat_rf, zcat_i, zcat_j, zcat_f, zcat_d]) (fun z hz => by cases hz) dJ32_fill_4 (fun _ => ?_)
  show zS _ 7 _ [] _
  refine zs_iload_n hE 1 rfl rfl dJ32_fill_7 ?_
  refine zs_istore hE (i := 4) (by decide) (rfl) (lv' := [(0, va_rf a1), (1, .int a2), (2, .int a3), (3, .int a4)]) rfl dJ32_fill_8 ?_
  refine zs_sub [1, 3, 4, 0] rfl ?_
  exact sm_J32_fill_L10 hE a1 a3 a4 a2
theorem hd_J32_fill : (yJ32_fill).cls ≠ "java/lang/invoke/MethodHandle" ∧ (yJ32_fill).cls ≠ "java/lang/invoke/VarHandle" ∧ (parseMethodDescriptor (yJ32_fill).desc).map (fun d => d.parameters.length) = some 4 := by decide +kernel
theorem met_J32_fill (K : ZK) (a1 : Option Nat) (a2 : Int32) (a3 : Int32) (a4 : Int32) : zMeth K yJ32_fill (zws yJ32_fill cJ32_fill 5 none) 2 122 [va_rf a1, .int a2, .int a3, .int a4] encV (s_J32_fill K a1 a2 a3 a4) :=
  fun l G hl hK => zmet_of hl hK (by decide +kernel) rfl rfl (by simp [zsl_nil, zsl_rf, zsl_r, zsl_i, zsl_j, zsl_f, zsl_d]) (fun x hE => by simp only [zla_nil, zla_rf, zla_r, zla_i, zla_j, zla_f, zla_d, Nat.reduceAdd]; exact sm_J32_fill hE a1 a2 a3 a4)
theorem sm_J15_fillNull {x : ZX Unit} {K : ZK} (hE : zE x K cJ15_fillNull RJ15 "fillNull" 3 3 146 encV none []) (a1 : Option Nat) (a2 : Int32) (a3 : Int32) : zS x 0 [(0, va_rf a1), (1, .int a2), (2, .int a3)] [] (s_J15_fillNull K a1 a2 a3) := by
  unfold s_J15_fillNull
  refine zs_aload_n hE 0 rfl rfl dJ15_fillNull_0 ?_
  refine zs_iload_n hE 1 rfl rfl dJ15_fillNull_1 ?_
  refine zs_iload_n hE 2 rfl rfl dJ15_fillNull_2 ?_
  refine zs_iconst hE (v := (0 : Int32)) (by decide) dJ15_fillNull_3 ?_
  refine zs_callS hE (As := [va_rf a1, .int a2, .int a3, .int (0 : Int32)]) (encA := encV) (met_J32_fill K a1 a2 a3 (0 : Int32)) q1351 q134 q1349 q1350 hd_J32_fill (by decide) (by decide) rfl (by simp [zcat_rf, zcat_i, zcat_j, zcat_f, zcat_d]) (fun z hz => by cases hz) dJ15_fillNull_4 (fun _ => ?_)
  show zS _ 7 _ [] _
  exact zs_vret hE dJ15_fillNull_7
theorem hd_J15_fillNull : (yJ15_fillNull).cls ≠ "java/lang/invoke/MethodHandle" ∧ (yJ15_fillNull).cls ≠ "java/lang/invoke/VarHandle" ∧ (parseMethodDescriptor (yJ15_fillNull).desc).map (fun d => d.parameters.length) = some 3 := by decide +kernel
theorem met_J15_fillNull (K : ZK) (a1 : Option Nat) (a2 : Int32) (a3 : Int32) : zMeth K yJ15_fillNull (zws yJ15_fillNull cJ15_fillNull 3 none) 3 146 [va_rf a1, .int a2, .int a3] encV (s_J15_fillNull K a1 a2 a3) :=
  fun l G hl hK => zmet_of hl hK (by decide +kernel) rfl rfl (by simp [zsl_nil, zsl_rf, zsl_r, zsl_i, zsl_j, zsl_f, zsl_d]) (fun x hE => by simp only [zla_nil, zla_rf, zla_r, zla_i, zla_j, zla_f, zla_d, Nat.reduceAdd]; exact sm_J15_fillNull hE a1 a2 a3)
theorem sm_J4_setLength__J5_J76 {x : ZX Unit} {K : ZK} (hE : zE x K cJ4_setLength RJ4 "setLength" 2 5 192 encV none []) (x0 : Nat) (x1 : Int32) : zS x 76 [(0, va_rf (some x0)), (1, .int x1)] [] (s_J4_setLength__J5_J76 K x0 x1) := by
  unfold s_J4_setLength__J5_J76
  refine zs_aload_n hE 0 rfl rfl dJ4_setLength_76 ?_
  refine zs_iload_n hE 1 rfl rfl dJ4_setLength_77 ?_
  refine zs_putI hE (ci := 21) (k := 3) rfl (by decide) in_J5 (Or.inl q380) (Or.inl rfl) (Or.inl rfl) (fun h => nomatch h) rfl dJ4_setLength_78 ?_
  exact zs_vret hE dJ4_setLength_81
theorem sm_J4_setLength__J5 {x : ZX Unit} {K : ZK} (hE : zE x K cJ4_setLength RJ4 "setLength" 2 5 192 encV none []) (this : Nat) (a1 : Int32) : zS x 0 [(0, va_rf (some this)), (1, .int a1)] [] (s_J4_setLength__J5 K this a1) := by
  unfold s_J4_setLength__J5
  refine zs_iload_n hE 1 rfl rfl dJ4_setLength_0 ?_
  refine zs_if_ge hE 13 (by decide) dJ4_setLength_1 ?_ ?_
  · refine zs_aload_n hE 0 rfl rfl dJ4_setLength_13 ?_
    refine zs_iload_n hE 1 rfl rfl dJ4_setLength_14 ?_
    refine zs_callV hE (As := [.int a1]) (encA := encV) (ci := 21) rfl (fun y0 => met_J4_ensureCapacityInternal__J5 K y0 a1) q1144 q101 q1141 q1143 (List.mem_append_left _ (List.mem_of_getElem? (i := 0) rfl)) hd_J4_ensureCapacityInternal__J5 (by decide) (by decide) rfl (by simp [zcat_rf, zcat_i, zcat_j, zcat_f, zcat_d]) (fun z hz => by cases hz) dJ4_setLength_15 (fun _ => ?_)
    show zS _ 18 _ [] _
    refine zs_aload_n hE 0 rfl rfl dJ4_setLength_18 ?_
    refine zs_getI hE (ci := 21) (k := 3) rfl (by decide) in_J5 (Or.inl q380) (Or.inl rfl) dJ4_setLength_19 (fun v1 => ?_)
    refine zs_iload_n hE 1 rfl rfl dJ4_setLength_22 ?_
    refine zs_icmp_ge hE 63 (by decide) dJ4_setLength_23 ?_ ?_
    · refine zs_aload_n hE 0 rfl rfl dJ4_setLength_63 ?_
      refine zs_getI hE (ci := 21) (k := 3) rfl (by decide) in_J5 (Or.inl q380) (Or.inl rfl) dJ4_setLength_64 (fun v2 => ?_)
      refine zs_iload_n hE 1 rfl rfl dJ4_setLength_67 ?_
      refine zs_icmp_le hE 76 (by decide) dJ4_setLength_68 ?_ ?_
      · exact sm_J4_setLength__J5_J76 hE this a1
      · refine zs_aload_n hE 0 rfl rfl dJ4_setLength_71 ?_
        refine zs_iconst hE (v := (1 : Int32)) (by decide) dJ4_setLength_72 ?_
        refine zs_putT hE (ci := 21) (k := 2) rfl (by decide) in_J5 (Or.inl q378) (Or.inl rfl) (Or.inl rfl) (fun h => nomatch h) rfl dJ4_setLength_73 ?_
        exact sm_J4_setLength__J5_J76 hE this a1
    · refine zs_aload_n hE 0 rfl rfl dJ4_setLength_26 ?_
      refine zs_callV hE (As := []) (encA := encI) (ci := 21) rfl (fun y0 => met_J4_isLatin1__J5 K y0) q728 q101 q724 q725 (zq q727) hd_J4_isLatin1__J5 (by decide) (by decide) rfl (by simp [zcat_rf, zcat_i, zcat_j, zcat_f, zcat_d]) (fun z hz => by cases hz) dJ4_setLength_27 (fun r3 => ?_)
      show zS _ 30 _ [.int r3] _
      refine zs_if_eq hE 48 (by decide) dJ4_setLength_30 ?_ ?_
      · refine zs_aload_n hE 0 rfl rfl dJ4_setLength_48 ?_
        refine zs_getR hE (ci := 21) (k := 0) rfl (by decide) in_J5 (Or.inl q376) (Or.inl rfl) dJ4_setLength_49 (fun v4 => ?_)
        refine zs_aload_n hE 0 rfl rfl dJ4_setLength_52 ?_
        refine zs_getI hE (ci := 21) (k := 3) rfl (by decide) in_J5 (Or.inl q380) (Or.inl rfl) dJ4_setLength_53 (fun v5 => ?_)
        refine zs_iload_n hE 1 rfl rfl dJ4_setLength_56 ?_
        exact zs_bad
      · refine zs_aload_n hE 0 rfl rfl dJ4_setLength_33 ?_
        refine zs_getR hE (ci := 21) (k := 0) rfl (by decide) in_J5 (Or.inl q376) (Or.inl rfl) dJ4_setLength_34 (fun v6 => ?_)
        refine zs_aload_n hE 0 rfl rfl dJ4_setLength_37 ?_
        refine zs_getI hE (ci := 21) (k := 3) rfl (by decide) in_J5 (Or.inl q380) (Or.inl rfl) dJ4_setLength_38 (fun v7 => ?_)
        refine zs_iload_n hE 1 rfl rfl dJ4_setLength_41 ?_
        refine zs_callS hE (As := [va_rf v6, .int v7, .int a1]) (encA := encV) (met_J15_fillNull K v6 v7 a1) q1348 q115 q1346 q1347 hd_J15_fillNull (by decide) (by decide) rfl (by simp [zcat_rf, zcat_i, zcat_j, zcat_f, zcat_d]) (fun z hz => by cases hz) dJ4_setLength_42 (fun _ => ?_)
        show zS _ 45 _ [] _
        refine zs_goto hE 76 (by decide) dJ4_setLength_45 ?_
        exact sm_J4_setLength__J5_J76 hE this a1
  · exact zs_bad
theorem hd_J4_setLength__J5 : (yJ4_setLength).cls ≠ "java/lang/invoke/MethodHandle" ∧ (yJ4_setLength).cls ≠ "java/lang/invoke/VarHandle" ∧ (parseMethodDescriptor (yJ4_setLength).desc).map (fun d => d.parameters.length) = some 1 := by decide +kernel
theorem met_J4_setLength__J5 (K : ZK) (this : Nat) (a1 : Int32) : zMeth K yJ4_setLength (zws yJ4_setLength cJ4_setLength 2 none) 5 192 [.ref this, .int a1] encV (s_J4_setLength__J5 K this a1) :=
  fun l G hl hK => zmet_of hl hK (by decide +kernel) rfl rfl (by simp [zsl_nil, zsl_rf, zsl_r, zsl_i, zsl_j, zsl_f, zsl_d]) (fun x hE => by simp only [zla_nil, zla_rf, zla_r, zla_i, zla_j, zla_f, zla_d, Nat.reduceAdd]; exact sm_J4_setLength__J5 hE this a1)
theorem sm_J5_setLength {x : ZX Unit} {K : ZK} (hE : zE x K cJ5_setLength RJ5 "setLength" 2 6 213 encV none []) (this : Nat) (a1 : Int32) : zS x 0 [(0, va_rf (some this)), (1, .int a1)] [] (s_J5_setLength K this a1) := by
  unfold s_J5_setLength
  refine zs_aload_n hE 0 rfl rfl dJ5_setLength_0 ?_
  refine zs_iload_n hE 1 rfl rfl dJ5_setLength_1 ?_
  refine zs_callSU hE (As := [.int a1]) (encA := encV) (ci := 21) rfl (fun y0 => met_J4_setLength__J5 K y0 a1) q1121 q101 q1119 q3288 q389 q1120 ⟨by decide, (hd_J4_setLength__J5).2.2⟩ (by decide) (by decide) rfl (by simp [zcat_rf, zcat_i, zcat_j, zcat_f, zcat_d]) (fun z hz => by cases hz) dJ5_setLength_2 (fun _ => ?_)
  show zS _ 5 _ [] _
  exact zs_vret hE dJ5_setLength_5
theorem hd_J5_setLength : (yJ5_setLength).cls ≠ "java/lang/invoke/MethodHandle" ∧ (yJ5_setLength).cls ≠ "java/lang/invoke/VarHandle" ∧ (parseMethodDescriptor (yJ5_setLength).desc).map (fun d => d.parameters.length) = some 1 := by decide +kernel
theorem met_J5_setLength (K : ZK) (this : Nat) (a1 : Int32) : zMeth K yJ5_setLength (zws yJ5_setLength cJ5_setLength 2 none) 6 213 [.ref this, .int a1] encV (s_J5_setLength K this a1) :=
  fun l G hl hK => zmet_of hl hK (by decide +kernel) rfl rfl (by simp [zsl_nil, zsl_rf, zsl_r, zsl_i, zsl_j, zsl_f, zsl_d]) (fun x hE => by simp only [zla_nil, zla_rf, zla_r, zla_i, zla_j, zla_f, zla_d, Nat.reduceAdd]; exact sm_J5_setLength hE this a1)
theorem sm_J6_coder {x : ZX Int32} {K : ZK} (hE : zE x K cJ6_coder RJ6 "coder" 1 1 100 encI (Option.some Jvm.ClassFile.FieldType.byte) []) (this : Nat) : zS x 0 [(0, va_rf (some this))] [] (s_J6_coder K this) := by
  unfold s_J6_coder
  refine zs_gets hE (C := "java/lang/String") (v := .int (1 : Int32)) (by simp [zST]) q559 (Or.inl rfl) dJ6_coder_0 ?_
  refine zs_if_eq hE 13 (by decide) dJ6_coder_3 ?_ ?_
  · exact zs_bad
  · refine zs_aload_n hE 0 rfl rfl dJ6_coder_6 ?_
    refine zs_getIK hE (ci := 22) (k := 1) rfl (by decide) in_J6 (Or.inl q1325) (Or.inl rfl) dJ6_coder_7 (fun v1 => ?_)
    refine zs_goto hE 14 (by decide) dJ6_coder_10 ?_
    exact zs_zretA hE dJ6_coder_14
theorem hd_J6_coder : (yJ6_coder).cls ≠ "java/lang/invoke/MethodHandle" ∧ (yJ6_coder).cls ≠ "java/lang/invoke/VarHandle" ∧ (parseMethodDescriptor (yJ6_coder).desc).map (fun d => d.parameters.length) = some 0 := by decide +kernel
theorem met_J6_coder (K : ZK) (this : Nat) : zMeth K yJ6_coder (zws yJ6_coder cJ6_coder 1 (Option.some Jvm.ClassFile.FieldType.byte)) 1 100 [.ref this] encI (s_J6_coder K this) :=
  fun l G hl hK => zmet_of hl hK (by decide +kernel) rfl rfl (by simp [zsl_nil, zsl_rf, zsl_r, zsl_i, zsl_j, zsl_f, zsl_d]) (fun x hE => by simp only [zla_nil, zla_rf, zla_r, zla_i, zla_j, zla_f, zla_d, Nat.reduceAdd]; exact sm_J6_coder hE this)
theorem sm_J6_length {x : ZX Int32} {K : ZK} (hE : zE x K cJ6_length RJ6 "length" 1 2 120 encI (Option.some Jvm.ClassFile.FieldType.int) []) (this : Nat) : zS x 0 [(0, va_rf (some this))] [] (s_J6_length K this) := by
  unfold s_J6_length
  refine zs_aload_n hE 0 rfl rfl dJ6_length_0 ?_
  refine zs_getRK hE (ci := 22) (k := 0) rfl (by decide) in_J6 (Or.inl q1324) (Or.inl rfl) dJ6_length_1 (fun v1 => ?_)
  refine zs_lenK hE (t := 3) rfl dJ6_length_4 (fun v2 => ?_)
  refine zs_aload_n hE 0 rfl rfl dJ6_length_5 ?_
  refine zs_callVK hE (As := []) (encA := encI) (ci := 22) rfl (fun y0 => met_J6_coder K y0) q558 q103 q555 q556 (zq q557) hd_J6_coder (by decide) (by decide) rfl (by simp [zcat_rf, zcat_i, zcat_j, zcat_f, zcat_d]) (fun z hz => by cases hz) dJ6_length_6 (fun r3 => ?_)
  show zS _ 9 _ [.int r3, .int v2] _
  refine zs_ishr hE dJ6_length_9 ?_
  exact zs_iret hE dJ6_length_10
theorem hd_J6_length : (yJ6_length).cls ≠ "java/lang/invoke/MethodHandle" ∧ (yJ6_length).cls ≠ "java/lang/invoke/VarHandle" ∧ (parseMethodDescriptor (yJ6_length).desc).map (fun d => d.parameters.length) = some 0 := by decide +kernel
theorem met_J6_length (K : ZK) (this : Nat) : zMeth K yJ6_length (zws yJ6_length cJ6_length 1 (Option.some Jvm.ClassFile.FieldType.int)) 2 120 [.ref this] encI (s_J6_length K this) :=
  fun l G hl hK => zmet_of hl hK (by decide +kernel) rfl rfl (by simp [zsl_nil, zsl_rf, zsl_r, zsl_i, zsl_j, zsl_f, zsl_d]) (fun x hE => by simp only [zla_nil, zla_rf, zla_r, zla_i, zla_j, zla_f, zla_d, Nat.reduceAdd]; exact sm_J6_length hE this)
theorem sm_J6_isLatin1 {x : ZX Int32} {K : ZK} (hE : zE x K cJ6_isLatin1 RJ6 "isLatin1" 1 1 100 encI (Option.some Jvm.ClassFile.FieldType.boolean) []) (this : Nat) : zS x 0 [(0, va_rf (some this))] [] (s_J6_isLatin1 K this) := by
  unfold s_J6_isLatin1
  refine zs_gets hE (C := "java/lang/String") (v := .int (1 : Int32)) (by simp [zST]) q559 (Or.inl rfl) dJ6_isLatin1_0 ?_
  refine zs_if_eq hE 17 (by decide) dJ6_isLatin1_3 ?_ ?_
  · exact zs_bad
  · refine zs_aload_n hE 0 rfl rfl dJ6_isLatin1_6 ?_
    refine zs_getIK hE (ci := 22) (k := 1) rfl (by decide) in_J6 (Or.inl q1325) (Or.inl rfl) dJ6_isLatin1_7 (fun v1 => ?_)
    refine zs_if_ne hE 17 (by decide) dJ6_isLatin1_10 ?_ ?_
    · refine zs_iconst hE (v := (1 : Int32)) (by decide) dJ6_isLatin1_13 ?_
      refine zs_goto hE 18 (by decide) dJ6_isLatin1_14 ?_
      exact zs_zret hE rfl dJ6_isLatin1_18
    · refine zs_iconst hE (v := (0 : Int32)) (by decide) dJ6_isLatin1_17 ?_
      exact zs_zret hE rfl dJ6_isLatin1_18
theorem hd_J6_isLatin1 : (yJ6_isLatin1).cls ≠ "java/lang/invoke/MethodHandle" ∧ (yJ6_isLatin1).cls ≠ "java/lang/invoke/VarHandle" ∧ (parseMethodDescriptor (yJ6_isLatin1).desc).map (fun d => d.parameters.length) = some 0 := by decide +kernel
theorem met_J6_isLatin1 (K : ZK) (this : Nat) : zMeth K yJ6_isLatin1 (zws yJ6_isLatin1 cJ6_isLatin1 1 (Option.some Jvm.ClassFile.FieldType.boolean)) 1 100 [.ref this] encI (s_J6_isLatin1 K this) :=
  fun l G hl hK => zmet_of hl hK (by decide +kernel) rfl rfl (by simp [zsl_nil, zsl_rf, zsl_r, zsl_i, zsl_j, zsl_f, zsl_d]) (fun x hE => by simp only [zla_nil, zla_rf, zla_r, zla_i, zla_j, zla_f, zla_d, Nat.reduceAdd]; exact sm_J6_isLatin1 hE this)
theorem sm_J6_checkIndex {x : ZX Unit} {K : ZK} (hE : zE x K cJ6_checkIndex RJ6 "checkIndex" 2 2 122 encV none []) (a1 : Int32) (a2 : Int32) : zS x 0 [(0, .int a1), (1, .int a2)] [] (s_J6_checkIndex K a1 a2) := by
  unfold s_J6_checkIndex
  refine zs_iload_n hE 0 rfl rfl dJ6_checkIndex_0 ?_
  refine zs_iload_n hE 1 rfl rfl dJ6_checkIndex_1 ?_
  refine zs_gets hE (C := "jdk/internal/util/Preconditions") (v := va_rf (zoptK K)) (by simp [zST]) q739 (Or.inl rfl) dJ6_checkIndex_2 ?_
  refine zs_callS hE (As := [.int a1, .int a2, va_rf (zoptK K)]) (encA := encI) (met_J20_checkIndex K a1 a2 (zoptK K)) q1420 q121 q1418 q1419 hd_J20_checkIndex (by decide) (by decide) rfl (by simp [zcat_rf, zcat_i, zcat_j, zcat_f, zcat_d]) (fun z hz => by cases hz) dJ6_checkIndex_5 (fun r1 => ?_)
  show zS _ 8 _ [.int r1] _
  refine zs_pop hE (rfl) dJ6_checkIndex_8 ?_
  exact zs_vret hE dJ6_checkIndex_9
theorem hd_J6_checkIndex : (yJ6_checkIndex).cls ≠ "java/lang/invoke/MethodHandle" ∧ (yJ6_checkIndex).cls ≠ "java/lang/invoke/VarHandle" ∧ (parseMethodDescriptor (yJ6_checkIndex).desc).map (fun d => d.parameters.length) = some 2 := by decide +kernel
theorem met_J6_checkIndex (K : ZK) (a1 : Int32) (a2 : Int32) : zMeth K yJ6_checkIndex (zws yJ6_checkIndex cJ6_checkIndex 2 none) 2 122 [.int a1, .int a2] encV (s_J6_checkIndex K a1 a2) :=
  fun l G hl hK => zmet_of hl hK (by decide +kernel) rfl rfl (by simp [zsl_nil, zsl_rf, zsl_r, zsl_i, zsl_j, zsl_f, zsl_d]) (fun x hE => by simp only [zla_nil, zla_rf, zla_r, zla_i, zla_j, zla_f, zla_d, Nat.reduceAdd]; exact sm_J6_checkIndex hE a1 a2)
theorem sm_J15_charAt {x : ZX Int32} {K : ZK} (hE : zE x K cJ15_charAt RJ15 "charAt" 2 3 143 encI (Option.some Jvm.ClassFile.FieldType.char) []) (a1 : Option Nat) (a2 : Int32) : zS x 0 [(0, va_rf a1), (1, .int a2)] [] (s_J15_charAt K a1 a2) := by
  unfold s_J15_charAt
  refine zs_iload_n hE 1 rfl rfl dJ15_charAt_0 ?_
  refine zs_aload_n hE 0 rfl rfl dJ15_charAt_1 ?_
  refine zs_lenK hE (t := 3) rfl dJ15_charAt_2 (fun v1 => ?_)
  refine zs_callS hE (As := [.int a2, .int v1]) (encA := encV) (met_J6_checkIndex K a2 v1) q1417 q103 q2540 q1416 hd_J6_checkIndex (by decide) (by decide) rfl (by simp [zcat_rf, zcat_i, zcat_j, zcat_f, zcat_d]) (fun z hz => by cases hz) dJ15_charAt_3 (fun _ => ?_)
  show zS _ 6 _ [] _
  refine zs_aload_n hE 0 rfl rfl dJ15_charAt_6 ?_
  refine zs_iload_n hE 1 rfl rfl dJ15_charAt_7 ?_
  refine zs_aldK hE dJ15_charAt_8 (fun v2 => ?_)
  refine zs_sipush hE (v := (255 : Int32)) (by decide) dJ15_charAt_9 ?_
  refine zs_iand hE dJ15_charAt_12 ?_
  refine zs_i2c hE dJ15_charAt_13 ?_
  exact zs_zretA hE dJ15_charAt_14
theorem hd_J15_charAt : (yJ15_charAt).cls ≠ "java/lang/invoke/MethodHandle" ∧ (yJ15_charAt).cls ≠ "java/lang/invoke/VarHandle" ∧ (parseMethodDescriptor (yJ15_charAt).desc).map (fun d => d.parameters.length) = some 2 := by decide +kernel
theorem met_J15_charAt (K : ZK) (a1 : Option Nat) (a2 : Int32) : zMeth K yJ15_charAt (zws yJ15_charAt cJ15_charAt 2 (Option.some Jvm.ClassFile.FieldType.char)) 3 143 [va_rf a1, .int a2] encI (s_J15_charAt K a1 a2) :=
  fun l G hl hK => zmet_of hl hK (by decide +kernel) rfl rfl (by simp [zsl_nil, zsl_rf, zsl_r, zsl_i, zsl_j, zsl_f, zsl_d]) (fun x hE => by simp only [zla_nil, zla_rf, zla_r, zla_i, zla_j, zla_f, zla_d, Nat.reduceAdd]; exact sm_J15_charAt hE a1 a2)
theorem sm_J6_charAt {x : ZX Int32} {K : ZK} (hE : zE x K cJ6_charAt RJ6 "charAt" 2 4 164 encI (Option.some Jvm.ClassFile.FieldType.char) []) (this : Nat) (a1 : Int32) : zS x 0 [(0, va_rf (some this)), (1, .int a1)] [] (s_J6_charAt K this a1) := by
  unfold s_J6_charAt
  refine zs_aload_n hE 0 rfl rfl dJ6_charAt_0 ?_
  refine zs_callVK hE (As := []) (encA := encI) (ci := 22) rfl (fun y0 => met_J6_isLatin1 K y0) q2536 q103 q2533 q2534 (zq q2535) hd_J6_isLatin1 (by decide) (by decide) rfl (by simp [zcat_rf, zcat_i, zcat_j, zcat_f, zcat_d]) (fun z hz => by cases hz) dJ6_charAt_1 (fun r1 => ?_)
  show zS _ 4 _ [.int r1] _
  refine zs_if_eq hE 16 (by decide) dJ6_charAt_4 ?_ ?_
  · refine zs_aload_n hE 0 rfl rfl dJ6_charAt_16 ?_
    refine zs_getRK hE (ci := 22) (k := 0) rfl (by decide) in_J6 (Or.inl q1324) (Or.inl rfl) dJ6_charAt_17 (fun v2 => ?_)
    refine zs_iload_n hE 1 rfl rfl dJ6_charAt_20 ?_
    exact zs_bad
  · refine zs_aload_n hE 0 rfl rfl dJ6_charAt_7 ?_
    refine zs_getRK hE (ci := 22) (k := 0) rfl (by decide) in_J6 (Or.inl q1324) (Or.inl rfl) dJ6_charAt_8 (fun v3 => ?_)
    refine zs_iload_n hE 1 rfl rfl dJ6_charAt_11 ?_
    refine zs_callS hE (As := [va_rf v3, .int a1]) (encA := encI) (met_J15_charAt K v3 a1) q2539 q115 q2537 q2538 hd_J15_charAt (by decide) (by decide) rfl (by simp [zcat_rf, zcat_i, zcat_j, zcat_f, zcat_d]) (fun z hz => by cases hz) dJ6_charAt_12 (fun r4 => ?_)
    show zS _ 15 _ [.int r4] _
    exact zs_zretA hE dJ6_charAt_15
theorem hd_J6_charAt : (yJ6_charAt).cls ≠ "java/lang/invoke/MethodHandle" ∧ (yJ6_charAt).cls ≠ "java/lang/invoke/VarHandle" ∧ (parseMethodDescriptor (yJ6_charAt).desc).map (fun d => d.parameters.length) = some 1 := by decide +kernel
theorem met_J6_charAt (K : ZK) (this : Nat) (a1 : Int32) : zMeth K yJ6_charAt (zws yJ6_charAt cJ6_charAt 2 (Option.some Jvm.ClassFile.FieldType.char)) 4 164 [.ref this, .int a1] encI (s_J6_charAt K this a1) :=
  fun l G hl hK => zmet_of hl hK (by decide +kernel) rfl rfl (by simp [zsl_nil, zsl_rf, zsl_r, zsl_i, zsl_j, zsl_f, zsl_d]) (fun x hE => by simp only [zla_nil, zla_rf, zla_r, zla_i, zla_j, zla_f, zla_d, Nat.reduceAdd]; exact sm_J6_charAt hE this a1)
theorem sm_X12_here {x : ZX Int32} {K : ZK} (hE : zE x K cX12_here RX12 "here" 1 5 185 encI (Option.some Jvm.ClassFile.FieldType.char) []) (this : Nat) : zS x 0 [(0, va_rf (some this))] [] (s_X12_here K this) := by
  unfold s_X12_here
  refine zs_aload_n hE 0 rfl rfl dX12_here_0 ?_
  refine zs_getI hE (ci := 27) (k := 2) rfl (by decide) in_X12 (Or.inl q2474) (Or.inl rfl) dX12_here_1 (fun v1 => ?_)
  refine zs_aload_n hE 0 rfl rfl dX12_here_4 ?_
  refine zs_getR hE (ci := 27) (k := 0) rfl (by decide) in_X12 (Or.inl q2471) (Or.inl rfl) dX12_here_5 (fun v2 => ?_)
  refine zs_callFK hE (xx := ⟨"java/lang/CharSequence", "length", "()I"⟩) (As := []) (encA := encI) (ci := 22) rfl (fun y0 => met_J6_length K y0) q1189 q103 q2513 (List.mem_of_getElem? (i := 11) rfl) q1187 q2517 hdx_h14 (by decide) (by decide) rfl (by simp [zcat_rf, zcat_i, zcat_j, zcat_f, zcat_d]) (fun z hz => by cases hz) dX12_here_8 (fun r3 => ?_)
  show zS _ 13 _ [.int r3, .int v1] _
  refine zs_icmp_ge hE 32 (by decide) dX12_here_13 ?_ ?_
  · refine zs_iconst hE (v := (0 : Int32)) (by decide) dX12_here_32 ?_
    exact zs_zret hE rfl dX12_here_33
  · refine zs_aload_n hE 0 rfl rfl dX12_here_16 ?_
    refine zs_getR hE (ci := 27) (k := 0) rfl (by decide) in_X12 (Or.inl q2471) (Or.inl rfl) dX12_here_17 (fun v4 => ?_)
    refine zs_aload_n hE 0 rfl rfl dX12_here_20 ?_
    refine zs_getI hE (ci := 27) (k := 2) rfl (by decide) in_X12 (Or.inl q2474) (Or.inl rfl) dX12_here_21 (fun v5 => ?_)
    refine zs_callFK hE (xx := ⟨"java/lang/CharSequence", "charAt", "(I)C"⟩) (As := [.int v5]) (encA := encI) (ci := 22) rfl (fun y0 => met_J6_charAt K y0 v5) q2532 q103 q2525 (List.mem_of_getElem? (i := 12) rfl) q2530 q2528 hdx_h15 (by decide) (by decide) rfl (by simp [zcat_rf, zcat_i, zcat_j, zcat_f, zcat_d]) (fun z hz => by cases hz) dX12_here_24 (fun r6 => ?_)
    show zS _ 29 _ [.int r6] _
    refine zs_goto hE 33 (by decide) dX12_here_29 ?_
    exact zs_zretA hE dX12_here_33
theorem hd_X12_here : (yX12_here).cls ≠ "java/lang/invoke/MethodHandle" ∧ (yX12_here).cls ≠ "java/lang/invoke/VarHandle" ∧ (parseMethodDescriptor (yX12_here).desc).map (fun d => d.parameters.length) = some 0 := by decide +kernel
theorem met_X12_here (K : ZK) (this : Nat) : zMeth K yX12_here (zws yX12_here cX12_here 1 (Option.some Jvm.ClassFile.FieldType.char)) 5 185 [.ref this] encI (s_X12_here K this) :=
  fun l G hl hK => zmet_of hl hK (by decide +kernel) rfl rfl (by simp [zsl_nil, zsl_rf, zsl_r, zsl_i, zsl_j, zsl_f, zsl_d]) (fun x hE => by simp only [zla_nil, zla_rf, zla_r, zla_i, zla_j, zla_f, zla_d, Nat.reduceAdd]; exact sm_X12_here hE this)
theorem sm_X12_takes {x : ZX Int32} {K : ZK} (hE : zE x K cX12_takes RX12 "takes" 2 6 205 encI (Option.some Jvm.ClassFile.FieldType.boolean) []) (this : Nat) (a1 : Int32) : zS x 0 [(0, va_rf (some this)), (1, .int a1)] [] (s_X12_takes K this a1) := by
  unfold s_X12_takes
  refine zs_aload_n hE 0 rfl rfl dX12_takes_0 ?_
  refine zs_getI hE (ci := 27) (k := 3) rfl (by decide) in_X12 (Or.inl q2476) (Or.inl rfl) dX12_takes_1 (fun v1 => ?_)
  refine zs_if_ne hE 15 (by decide) dX12_takes_4 ?_ ?_
  · refine zs_aload_n hE 0 rfl rfl dX12_takes_7 ?_
    refine zs_callV hE (As := []) (encA := encI) (ci := 27) rfl (fun y0 => met_X12_here K y0) q2511 q153 q2508 q2510 (zq qs33) hd_X12_here (by decide) (by decide) rfl (by simp [zcat_rf, zcat_i, zcat_j, zcat_f, zcat_d]) (fun z hz => by cases hz) dX12_takes_8 (fun r2 => ?_)
    show zS _ 11 _ [.int r2] _
    refine zs_iload_n hE 1 rfl rfl dX12_takes_11 ?_
    refine zs_icmp_eq hE 17 (by decide) dX12_takes_12 ?_ ?_
    · refine zs_aload_n hE 0 rfl rfl dX12_takes_17 ?_
      refine zs_dup hE (zcat_rf _) dX12_takes_18 ?_
      refine zs_getI hE (ci := 27) (k := 2) rfl (by decide) in_X12 (Or.inl q2474) (Or.inl rfl) dX12_takes_19 (fun v3 => ?_)
      refine zs_iconst hE (v := (1 : Int32)) (by decide) dX12_takes_22 ?_
      refine zs_iadd hE dX12_takes_23 ?_
      refine zs_putI hE (ci := 27) (k := 2) rfl (by decide) in_X12 (Or.inl q2474) (Or.inl rfl) (Or.inl rfl) (fun h => nomatch h) rfl dX12_takes_24 ?_
      refine zs_iconst hE (v := (1 : Int32)) (by decide) dX12_takes_27 ?_
      exact zs_zret hE rfl dX12_takes_28
    · refine zs_iconst hE (v := (0 : Int32)) (by decide) dX12_takes_15 ?_
      exact zs_zret hE rfl dX12_takes_16
  · refine zs_iconst hE (v := (0 : Int32)) (by decide) dX12_takes_15 ?_
    exact zs_zret hE rfl dX12_takes_16
theorem hd_X12_takes : (yX12_takes).cls ≠ "java/lang/invoke/MethodHandle" ∧ (yX12_takes).cls ≠ "java/lang/invoke/VarHandle" ∧ (parseMethodDescriptor (yX12_takes).desc).map (fun d => d.parameters.length) = some 1 := by decide +kernel
theorem met_X12_takes (K : ZK) (this : Nat) (a1 : Int32) : zMeth K yX12_takes (zws yX12_takes cX12_takes 2 (Option.some Jvm.ClassFile.FieldType.boolean)) 6 205 [.ref this, .int a1] encI (s_X12_takes K this a1) :=
  fun l G hl hK => zmet_of hl hK (by decide +kernel) rfl rfl (by simp [zsl_nil, zsl_rf, zsl_r, zsl_i, zsl_j, zsl_f, zsl_d]) (fun x hE => by simp only [zla_nil, zla_rf, zla_r, zla_i, zla_j, zla_f, zla_d, Nat.reduceAdd]; exact sm_X12_takes hE this a1)
theorem sm_X12_wants_J18 {x : ZX Unit} {K : ZK} (hE : zE x K cX12_wants RX12 "wants" 2 7 226 encV none []) (t0 : Int32) (t1 : Int32) (t2 : Nat) : zS x 18 [] [.int t0, .int t1, va_rf (some t2)] (s_X12_wants_J18 K t0 t1 t2) := by
  unfold s_X12_wants_J18
  refine zs_ior hE dX12_wants_18 ?_
  refine zs_putT hE (ci := 27) (k := 3) rfl (by decide) in_X12 (Or.inl q2476) (Or.inl rfl) (Or.inl rfl) (fun h => nomatch h) rfl dX12_wants_19 ?_
  exact zs_vret hE dX12_wants_22
theorem sm_X12_wants {x : ZX Unit} {K : ZK} (hE : zE x K cX12_wants RX12 "wants" 2 7 226 encV none []) (this : Nat) (a1 : Int32) : zS x 0 [(0, va_rf (some this)), (1, .int a1)] [] (s_X12_wants K this a1) := by
  unfold s_X12_wants
  refine zs_aload_n hE 0 rfl rfl dX12_wants_0 ?_
  refine zs_dup hE (zcat_rf _) dX12_wants_1 ?_
  refine zs_getI hE (ci := 27) (k := 3) rfl (by decide) in_X12 (Or.inl q2476) (Or.inl rfl) dX12_wants_2 (fun v1 => ?_)
  refine zs_aload_n hE 0 rfl rfl dX12_wants_5 ?_
  refine zs_iload_n hE 1 rfl rfl dX12_wants_6 ?_
  refine zs_callV hE (As := [.int a1]) (encA := encI) (ci := 27) rfl (fun y0 => met_X12_takes K y0 a1) q2507 q153 q2504 q2506 (zq qs32) hd_X12_takes (by decide) (by decide) rfl (by simp [zcat_rf, zcat_i, zcat_j, zcat_f, zcat_d]) (fun z hz => by cases hz) dX12_wants_7 (fun r2 => ?_)
  show zS _ 10 _ [.int r2, .int v1, va_rf (some this)] _
  refine zs_if_ne hE 17 (by decide) dX12_wants_10 ?_ ?_
  · refine zs_iconst hE (v := (1 : Int32)) (by decide) dX12_wants_13 ?_
    refine zs_goto hE 18 (by decide) dX12_wants_14 ?_
    refine zs_sub [] rfl ?_
    exact sm_X12_wants_J18 hE (1 : Int32) v1 this
  · refine zs_iconst hE (v := (0 : Int32)) (by decide) dX12_wants_17 ?_
    refine zs_sub [] rfl ?_
    exact sm_X12_wants_J18 hE (0 : Int32) v1 this
theorem hd_X12_wants : (yX12_wants).cls ≠ "java/lang/invoke/MethodHandle" ∧ (yX12_wants).cls ≠ "java/lang/invoke/VarHandle" ∧ (parseMethodDescriptor (yX12_wants).desc).map (fun d => d.parameters.length) = some 1 := by decide +kernel
theorem met_X12_wants (K : ZK) (this : Nat) (a1 : Int32) : zMeth K yX12_wants (zws yX12_wants cX12_wants 2 none) 7 226 [.ref this, .int a1] encV (s_X12_wants K this a1) :=
  fun l G hl hK => zmet_of hl hK (by decide +kernel) rfl rfl (by simp [zsl_nil, zsl_rf, zsl_r, zsl_i, zsl_j, zsl_f, zsl_d]) (fun x hE => by simp only [zla_nil, zla_rf, zla_r, zla_i, zla_j, zla_f, zla_d, Nat.reduceAdd]; exact sm_X12_wants hE this a1)
theorem sm_X13_init__X19 {x : ZX Unit} {K : ZK} (hE : zE x K cX13_init RX13 "<init>" 2 1 100 encV none []) (this : Nat) (a1 : Option Nat) : zS x 0 [(0, va_rf (some this)), (1, va_rf a1)] [] (s_X13_init__X19 K this a1) := by
  unfold s_X13_init__X19
  refine zs_aload_n hE 0 rfl rfl dX13_init_0 ?_
  refine zs_aload_n hE 1 rfl rfl dX13_init_1 ?_
  refine zs_putR hE (ci := 33) (k := 0) rfl (by decide) in_X19 (Or.inl q2582) (Or.inl rfl) (Or.inr ⟨rfl, rfl, rfl⟩) (fun _ => q2582) (tyX19_ok 0 (by decide)) (Or.inl ⟨_, rfl⟩) dX13_init_2 ?_
  refine zs_aload_n hE 0 rfl rfl dX13_init_5 ?_
  refine zs_objInit hE q2579 q169 q170 (by decide) (by first | decide | simp [zcat_rf, zcat_i, zcat_j, zcat_f, zcat_d]) dX13_init_6 ?_
  exact zs_vret hE dX13_init_9
theorem hd_X13_init__X19 : (yX13_init).cls ≠ "java/lang/invoke/MethodHandle" ∧ (yX13_init).cls ≠ "java/lang/invoke/VarHandle" ∧ (parseMethodDescriptor (yX13_init).desc).map (fun d => d.parameters.length) = some 1 := by decide +kernel
theorem met_X13_init__X19 (K : ZK) (this : Nat) (a1 : Option Nat) : zMeth K yX13_init (zws yX13_init cX13_init 2 none) 1 100 [.ref this, va_rf a1] encV (s_X13_init__X19 K this a1) :=
  fun l G hl hK => zmet_of hl hK (by decide +kernel) rfl rfl (by simp [zsl_nil, zsl_rf, zsl_r, zsl_i, zsl_j, zsl_f, zsl_d]) (fun x hE => by simp only [zla_nil, zla_rf, zla_r, zla_i, zla_j, zla_f, zla_d, Nat.reduceAdd]; exact sm_X13_init__X19 hE this a1)
theorem sm_X19_init {x : ZX Unit} {K : ZK} (hE : zE x K cX19_init RX19 "<init>" 2 2 121 encV none []) (this : Nat) (a1 : Option Nat) : zS x 0 [(0, va_rf (some this)), (1, va_rf a1)] [] (s_X19_init K this a1) := by
  unfold s_X19_init
  refine zs_aload_n hE 0 rfl rfl dX19_init_0 ?_
  refine zs_aload_n hE 1 rfl rfl dX19_init_1 ?_
  refine zs_putR hE (ci := 33) (k := 1) rfl (by decide) in_X19 (Or.inl q2682) (Or.inl rfl) (Or.inr ⟨rfl, rfl, rfl⟩) (fun _ => q2682) (tyX19_ok 1 (by decide)) (Or.inl ⟨_, rfl⟩) dX19_init_2 ?_
  refine zs_aload_n hE 0 rfl rfl dX19_init_5 ?_
  refine zs_aload_n hE 1 rfl rfl dX19_init_6 ?_
  refine zs_getR hE (ci := 27) (k := 4) rfl (by decide) in_X12 (Or.inl q2479) (Or.inl rfl) dX19_init_7 (fun v1 => ?_)
  refine zs_callIN hE (As := [va_rf v1]) (encA := encV) (met_X13_init__X19 K this v1) q2578 q155 (zn q2681 rfl) q2577 rfl hd_X13_init__X19 (by decide) (by decide) rfl (by simp [zcat_rf, zcat_i, zcat_j, zcat_f, zcat_d]) (fun z hz => by cases hz) dX19_init_10 (fun _ => ?_)
  show zS _ 13 _ [] _
  exact zs_vret hE dX19_init_13
theorem hd_X19_init : (yX19_init).cls ≠ "java/lang/invoke/MethodHandle" ∧ (yX19_init).cls ≠ "java/lang/invoke/VarHandle" ∧ (parseMethodDescriptor (yX19_init).desc).map (fun d => d.parameters.length) = some 1 := by decide +kernel
theorem met_X19_init (K : ZK) (this : Nat) (a1 : Option Nat) : zMeth K yX19_init (zws yX19_init cX19_init 2 none) 2 121 [.ref this, va_rf a1] encV (s_X19_init K this a1) :=
  fun l G hl hK => zmet_of hl hK (by decide +kernel) rfl rfl (by simp [zsl_nil, zsl_rf, zsl_r, zsl_i, zsl_j, zsl_f, zsl_d]) (fun x hE => by simp only [zla_nil, zla_rf, zla_r, zla_i, zla_j, zla_f, zla_d, Nat.reduceAdd]; exact sm_X19_init hE this a1)
theorem sm_X12_losing {x : ZX (Option Nat)} {K : ZK} (hE : zE x K cX12_losing RX12 "losing" 1 8 247 encR (Option.some (Jvm.ClassFile.FieldType.object "TokenRing$Order")) []) (this : Nat) : zS x 0 [(0, va_rf (some this))] [] (s_X12_losing K this) := by
  unfold s_X12_losing
  refine zs_aload_n hE 0 rfl rfl dX12_losing_0 ?_
  refine zs_bipush hE (v := (120 : Int32)) (by decide) dX12_losing_1 ?_
  refine zs_callV hE (As := [.int (120 : Int32)]) (encA := encV) (ci := 27) rfl (fun y0 => met_X12_wants K y0 (120 : Int32)) q2615 q153 q2612 q2614 (zq qs40) hd_X12_wants (by decide) (by decide) rfl (by simp [zcat_rf, zcat_i, zcat_j, zcat_f, zcat_d]) (fun z hz => by cases hz) dX12_losing_3 (fun _ => ?_)
  show zS _ 6 _ [] _
  refine zs_new hE (ci := 33) (fs := [.null, .null]) rfl in_X19 tyX19 tyX19_ok q2676 q2677 q161 (fun j hj => by rcases (show j = 0 ∨ j = 1 by omega) with rfl | rfl <;> rfl) dX12_losing_6 (fun q1 => ?_)
  refine zs_dup hE (zcat_rf _) dX12_losing_9 ?_
  refine zs_aload_n hE 0 rfl rfl dX12_losing_10 ?_
  refine zs_callI hE (As := [va_rf (some this)]) (encA := encV) (met_X19_init K q1 (some this)) q2680 q161 q2678 q2679 rfl hd_X19_init (by decide) (by decide) rfl (by simp [zcat_rf, zcat_i, zcat_j, zcat_f, zcat_d]) (fun z hz => by cases hz) dX12_losing_11 (fun _ => ?_)
  show zS _ 14 _ [va_rf (some q1)] _
  exact zs_aret hE (Or.inl ⟨_, rfl⟩) dX12_losing_14
theorem hd_X12_losing : (yX12_losing).cls ≠ "java/lang/invoke/MethodHandle" ∧ (yX12_losing).cls ≠ "java/lang/invoke/VarHandle" ∧ (parseMethodDescriptor (yX12_losing).desc).map (fun d => d.parameters.length) = some 0 := by decide +kernel
theorem met_X12_losing (K : ZK) (this : Nat) : zMeth K yX12_losing (zws yX12_losing cX12_losing 1 (Option.some (Jvm.ClassFile.FieldType.object "TokenRing$Order"))) 8 247 [.ref this] encR (s_X12_losing K this) :=
  fun l G hl hK => zmet_of hl hK (by decide +kernel) rfl rfl (by simp [zsl_nil, zsl_rf, zsl_r, zsl_i, zsl_j, zsl_f, zsl_d]) (fun x hE => by simp only [zla_nil, zla_rf, zla_r, zla_i, zla_j, zla_f, zla_d, Nat.reduceAdd]; exact sm_X12_losing hE this)
theorem sm_X12_isDigit {x : ZX Int32} {K : ZK} (hE : zE x K cX12_isDigit RX12 "isDigit" 1 6 205 encI (Option.some Jvm.ClassFile.FieldType.boolean) []) (this : Nat) : zS x 0 [(0, va_rf (some this))] [] (s_X12_isDigit K this) := by
  unfold s_X12_isDigit
  refine zs_aload_n hE 0 rfl rfl dX12_isDigit_0 ?_
  refine zs_getI hE (ci := 27) (k := 3) rfl (by decide) in_X12 (Or.inl q2476) (Or.inl rfl) dX12_isDigit_1 (fun v1 => ?_)
  refine zs_if_ne hE 29 (by decide) dX12_isDigit_4 ?_ ?_
  · refine zs_aload_n hE 0 rfl rfl dX12_isDigit_7 ?_
    refine zs_callV hE (As := []) (encA := encI) (ci := 27) rfl (fun y0 => met_X12_here K y0) q2511 q153 q2508 q2510 (zq qs33) hd_X12_here (by decide) (by decide) rfl (by simp [zcat_rf, zcat_i, zcat_j, zcat_f, zcat_d]) (fun z hz => by cases hz) dX12_isDigit_8 (fun r2 => ?_)
    show zS _ 11 _ [.int r2] _
    refine zs_bipush hE (v := (48 : Int32)) (by decide) dX12_isDigit_11 ?_
    refine zs_icmp_lt hE 29 (by decide) dX12_isDigit_13 ?_ ?_
    · refine zs_iconst hE (v := (0 : Int32)) (by decide) dX12_isDigit_29 ?_
      exact zs_zret hE rfl dX12_isDigit_30
    · refine zs_aload_n hE 0 rfl rfl dX12_isDigit_16 ?_
      refine zs_callV hE (As := []) (encA := encI) (ci := 27) rfl (fun y0 => met_X12_here K y0) q2511 q153 q2508 q2510 (zq qs33) hd_X12_here (by decide) (by decide) rfl (by simp [zcat_rf, zcat_i, zcat_j, zcat_f, zcat_d]) (fun z hz => by cases hz) dX12_isDigit_17 (fun r3 => ?_)
      show zS _ 20 _ [.int r3] _
      refine zs_bipush hE (v := (57 : Int32)) (by decide) dX12_isDigit_20 ?_
      refine zs_icmp_gt hE 29 (by decide) dX12_isDigit_22 ?_ ?_
      · refine zs_iconst hE (v := (0 : Int32)) (by decide) dX12_isDigit_29 ?_
        exact zs_zret hE rfl dX12_isDigit_30
      · refine zs_iconst hE (v := (1 : Int32)) (by decide) dX12_isDigit_25 ?_
        refine zs_goto hE 30 (by decide) dX12_isDigit_26 ?_
        exact zs_zret hE rfl dX12_isDigit_30
  · refine zs_iconst hE (v := (0 : Int32)) (by decide) dX12_isDigit_29 ?_
    exact zs_zret hE rfl dX12_isDigit_30
theorem hd_X12_isDigit : (yX12_isDigit).cls ≠ "java/lang/invoke/MethodHandle" ∧ (yX12_isDigit).cls ≠ "java/lang/invoke/VarHandle" ∧ (parseMethodDescriptor (yX12_isDigit).desc).map (fun d => d.parameters.length) = some 0 := by decide +kernel
theorem met_X12_isDigit (K : ZK) (this : Nat) : zMeth K yX12_isDigit (zws yX12_isDigit cX12_isDigit 1 (Option.some Jvm.ClassFile.FieldType.boolean)) 6 205 [.ref this] encI (s_X12_isDigit K this) :=
  fun l G hl hK => zmet_of hl hK (by decide +kernel) rfl rfl (by simp [zsl_nil, zsl_rf, zsl_r, zsl_i, zsl_j, zsl_f, zsl_d]) (fun x hE => by simp only [zla_nil, zla_rf, zla_r, zla_i, zla_j, zla_f, zla_d, Nat.reduceAdd]; exact sm_X12_isDigit hE this)
theorem sm_X13_init__X18 {x : ZX Unit} {K : ZK} (hE : zE x K cX13_init RX13 "<init>" 2 1 100 encV none []) (this : Nat) (a1 : Option Nat) : zS x 0 [(0, va_rf (some this)), (1, va_rf a1)] [] (s_X13_init__X18 K this a1) := by
  unfold s_X13_init__X18
  refine zs_aload_n hE 0 rfl rfl dX13_init_0 ?_
  refine zs_aload_n hE 1 rfl rfl dX13_init_1 ?_
  refine zs_putR hE (ci := 32) (k := 0) rfl (by decide) in_X18 (Or.inl q2582) (Or.inl rfl) (Or.inr ⟨rfl, rfl, rfl⟩) (fun _ => q2582) (tyX18_ok 0 (by decide)) (Or.inl ⟨_, rfl⟩) dX13_init_2 ?_
  refine zs_aload_n hE 0 rfl rfl dX13_init_5 ?_
  refine zs_objInit hE q2579 q169 q170 (by decide) (by first | decide | simp [zcat_rf, zcat_i, zcat_j, zcat_f, zcat_d]) dX13_init_6 ?_
  exact zs_vret hE dX13_init_9
theorem hd_X13_init__X18 : (yX13_init).cls ≠ "java/lang/invoke/MethodHandle" ∧ (yX13_init).cls ≠ "java/lang/invoke/VarHandle" ∧ (parseMethodDescriptor (yX13_init).desc).map (fun d => d.parameters.length) = some 1 := by decide +kernel
theorem met_X13_init__X18 (K : ZK) (this : Nat) (a1 : Option Nat) : zMeth K yX13_init (zws yX13_init cX13_init 2 none) 1 100 [.ref this, va_rf a1] encV (s_X13_init__X18 K this a1) :=
  fun l G hl hK => zmet_of hl hK (by decide +kernel) rfl rfl (by simp [zsl_nil, zsl_rf, zsl_r, zsl_i, zsl_j, zsl_f, zsl_d]) (fun x hE => by simp only [zla_nil, zla_rf, zla_r, zla_i, zla_j, zla_f, zla_d, Nat.reduceAdd]; exact sm_X13_init__X18 hE this a1)
theorem sm_X18_init {x : ZX Unit} {K : ZK} (hE : zE x K cX18_init RX18 "<init>" 3 2 121 encV none []) (this : Nat) (a1 : Option Nat) (a2 : Int32) : zS x 0 [(0, va_rf (some this)), (1, va_rf a1), (2, .int a2)] [] (s_X18_init K this a1 a2) := by
  unfold s_X18_init
  refine zs_aload_n hE 0 rfl rfl dX18_init_0 ?_
  refine zs_aload_n hE 1 rfl rfl dX18_init_1 ?_
  refine zs_putR hE (ci := 32) (k := 2) rfl (by decide) in_X18 (Or.inl q2665) (Or.inl rfl) (Or.inr ⟨rfl, rfl, rfl⟩) (fun _ => q2665) (tyX18_ok 2 (by decide)) (Or.inl ⟨_, rfl⟩) dX18_init_2 ?_
  refine zs_aload_n hE 0 rfl rfl dX18_init_5 ?_
  refine zs_iload_n hE 2 rfl rfl dX18_init_6 ?_
  refine zs_putI hE (ci := 32) (k := 1) rfl (by decide) in_X18 (Or.inl q2664) (Or.inl rfl) (Or.inr ⟨rfl, rfl, rfl⟩) (fun _ => q2664) rfl dX18_init_7 ?_
  refine zs_aload_n hE 0 rfl rfl dX18_init_10 ?_
  refine zs_aload_n hE 1 rfl rfl dX18_init_11 ?_
  refine zs_getR hE (ci := 27) (k := 4) rfl (by decide) in_X12 (Or.inl q2483) (Or.inl rfl) dX18_init_12 (fun v1 => ?_)
  refine zs_callIN hE (As := [va_rf v1]) (encA := encV) (met_X13_init__X18 K this v1) q2578 q155 (zn q2663 rfl) q2577 rfl hd_X13_init__X18 (by decide) (by decide) rfl (by simp [zcat_rf, zcat_i, zcat_j, zcat_f, zcat_d]) (fun z hz => by cases hz) dX18_init_15 (fun _ => ?_)
  show zS _ 18 _ [] _
  exact zs_vret hE dX18_init_18
theorem hd_X18_init : (yX18_init).cls ≠ "java/lang/invoke/MethodHandle" ∧ (yX18_init).cls ≠ "java/lang/invoke/VarHandle" ∧ (parseMethodDescriptor (yX18_init).desc).map (fun d => d.parameters.length) = some 2 := by decide +kernel
theorem met_X18_init (K : ZK) (this : Nat) (a1 : Option Nat) (a2 : Int32) : zMeth K yX18_init (zws yX18_init cX18_init 3 none) 2 121 [.ref this, va_rf a1, .int a2] encV (s_X18_init K this a1 a2) :=
  fun l G hl hK => zmet_of hl hK (by decide +kernel) rfl rfl (by simp [zsl_nil, zsl_rf, zsl_r, zsl_i, zsl_j, zsl_f, zsl_d]) (fun x hE => by simp only [zla_nil, zla_rf, zla_r, zla_i, zla_j, zla_f, zla_d, Nat.reduceAdd]; exact sm_X18_init hE this a1 a2)
theorem sm_X12_digit_J17 {x : ZX Int32} {K : ZK} (hE : zE x K cX12_digit RX12 "digit" 1 7 225 encI (Option.some Jvm.ClassFile.FieldType.int) []) (x0 : Nat) (t0 : Int32) (t1 : Int32) (t2 : Nat) : zS x 17 [(0, va_rf (some x0))] [.int t0, .int t1, va_rf (some t2)] (s_X12_digit_J17 K x0 t0 t1 t2) := by
  unfold s_X12_digit_J17
  refine zs_ior hE dX12_digit_17 ?_
  refine zs_putT hE (ci := 27) (k := 3) rfl (by decide) in_X12 (Or.inl q2476) (Or.inl rfl) (Or.inl rfl) (fun h => nomatch h) rfl dX12_digit_18 ?_
  refine zs_aload_n hE 0 rfl rfl dX12_digit_21 ?_
  refine zs_getI hE (ci := 27) (k := 3) rfl (by decide) in_X12 (Or.inl q2476) (Or.inl rfl) dX12_digit_22 (fun v3 => ?_)
  refine zs_if_eq hE 30 (by decide) dX12_digit_25 ?_ ?_
  · refine zs_aload_n hE 0 rfl rfl dX12_digit_30 ?_
    refine zs_dup hE (zcat_rf _) dX12_digit_31 ?_
    refine zs_getI hE (ci := 27) (k := 2) rfl (by decide) in_X12 (Or.inl q2474) (Or.inl rfl) dX12_digit_32 (fun v4 => ?_)
    refine zs_iconst hE (v := (1 : Int32)) (by decide) dX12_digit_35 ?_
    refine zs_iadd hE dX12_digit_36 ?_
    refine zs_putI hE (ci := 27) (k := 2) rfl (by decide) in_X12 (Or.inl q2474) (Or.inl rfl) (Or.inl rfl) (fun h => nomatch h) rfl dX12_digit_37 ?_
    refine zs_aload_n hE 0 rfl rfl dX12_digit_40 ?_
    refine zs_getR hE (ci := 27) (k := 0) rfl (by decide) in_X12 (Or.inl q2471) (Or.inl rfl) dX12_digit_41 (fun v5 => ?_)
    refine zs_aload_n hE 0 rfl rfl dX12_digit_44 ?_
    refine zs_getI hE (ci := 27) (k := 2) rfl (by decide) in_X12 (Or.inl q2474) (Or.inl rfl) dX12_digit_45 (fun v6 => ?_)
    refine zs_iconst hE (v := (1 : Int32)) (by decide) dX12_digit_48 ?_
    refine zs_isub hE dX12_digit_49 ?_
    refine zs_callFK hE (xx := ⟨"java/lang/CharSequence", "charAt", "(I)C"⟩) (As := [.int (v6 - (1 : Int32))]) (encA := encI) (ci := 22) rfl (fun y0 => met_J6_charAt K y0 (v6 - (1 : Int32))) q2532 q103 q2525 (List.mem_of_getElem? (i := 12) rfl) q2530 q2528 hdx_h15 (by decide) (by decide) rfl (by simp [zcat_rf, zcat_i, zcat_j, zcat_f, zcat_d]) (fun z hz => by cases hz) dX12_digit_50 (fun r7 => ?_)
    show zS _ 55 _ [.int r7] _
    refine zs_bipush hE (v := (48 : Int32)) (by decide) dX12_digit_55 ?_
    refine zs_isub hE dX12_digit_57 ?_
    exact zs_iret hE dX12_digit_58
  · refine zs_iconst hE (v := (0 : Int32)) (by decide) dX12_digit_28 ?_
    exact zs_iret hE dX12_digit_29
theorem sm_X12_digit {x : ZX Int32} {K : ZK} (hE : zE x K cX12_digit RX12 "digit" 1 7 225 encI (Option.some Jvm.ClassFile.FieldType.int) []) (this : Nat) : zS x 0 [(0, va_rf (some this))] [] (s_X12_digit K this) := by
  unfold s_X12_digit
  refine zs_aload_n hE 0 rfl rfl dX12_digit_0 ?_
  refine zs_dup hE (zcat_rf _) dX12_digit_1 ?_
  refine zs_getI hE (ci := 27) (k := 3) rfl (by decide) in_X12 (Or.inl q2476) (Or.inl rfl) dX12_digit_2 (fun v1 => ?_)
  refine zs_aload_n hE 0 rfl rfl dX12_digit_5 ?_
  refine zs_callV hE (As := []) (encA := encI) (ci := 27) rfl (fun y0 => met_X12_isDigit K y0) q2570 q153 q2567 q2569 (zq qs37) hd_X12_isDigit (by decide) (by decide) rfl (by simp [zcat_rf, zcat_i, zcat_j, zcat_f, zcat_d]) (fun z hz => by cases hz) dX12_digit_6 (fun r2 => ?_)
  show zS _ 9 _ [.int r2, .int v1, va_rf (some this)] _
  refine zs_if_ne hE 16 (by decide) dX12_digit_9 ?_ ?_
  · refine zs_iconst hE (v := (1 : Int32)) (by decide) dX12_digit_12 ?_
    refine zs_goto hE 17 (by decide) dX12_digit_13 ?_
    exact sm_X12_digit_J17 hE this (1 : Int32) v1 this
  · refine zs_iconst hE (v := (0 : Int32)) (by decide) dX12_digit_16 ?_
    exact sm_X12_digit_J17 hE this (0 : Int32) v1 this
theorem hd_X12_digit : (yX12_digit).cls ≠ "java/lang/invoke/MethodHandle" ∧ (yX12_digit).cls ≠ "java/lang/invoke/VarHandle" ∧ (parseMethodDescriptor (yX12_digit).desc).map (fun d => d.parameters.length) = some 0 := by decide +kernel
theorem met_X12_digit (K : ZK) (this : Nat) : zMeth K yX12_digit (zws yX12_digit cX12_digit 1 (Option.some Jvm.ClassFile.FieldType.int)) 7 225 [.ref this] encI (s_X12_digit K this) :=
  fun l G hl hK => zmet_of hl hK (by decide +kernel) rfl rfl (by simp [zsl_nil, zsl_rf, zsl_r, zsl_i, zsl_j, zsl_f, zsl_d]) (fun x hE => by simp only [zla_nil, zla_rf, zla_r, zla_i, zla_j, zla_f, zla_d, Nat.reduceAdd]; exact sm_X12_digit hE this)
theorem sm_X12_number {x : ZX Int32} {K : ZK} (hE : zE x K cX12_number RX12 "number" 2 8 245 encI (Option.some Jvm.ClassFile.FieldType.int) []) (this : Nat) : zS x 0 [(0, va_rf (some this))] [] (s_X12_number K this) := by
  unfold s_X12_number
  refine zs_aload_n hE 0 rfl rfl dX12_number_0 ?_
  refine zs_callV hE (As := []) (encA := encI) (ci := 27) rfl (fun y0 => met_X12_digit K y0) q2566 q153 q2563 q2565 (zq qs36) hd_X12_digit (by decide) (by decide) rfl (by simp [zcat_rf, zcat_i, zcat_j, zcat_f, zcat_d]) (fun z hz => by cases hz) dX12_number_1 (fun r1 => ?_)
  show zS _ 4 _ [.int r1] _
  refine zs_istore_n hE (i := 1) (q := 1) rfl (by decide) (zcat_rf (some this)) (lv' := [(0, va_rf (some this))]) rfl dX12_number_4 ?_
  refine zs_aload_n hE 1 rfl rfl dX12_number_5 ?_
  refine zs_callV hE (As := []) (encA := encI) (ci := 27) rfl (fun y0 => met_X12_isDigit K y0) q2570 q153 q2567 q2569 (zq qs37) hd_X12_isDigit (by decide) (by decide) rfl (by simp [zcat_rf, zcat_i, zcat_j, zcat_f, zcat_d]) (fun z hz => by cases hz) dX12_number_6 (fun r2 => ?_)
  show zS _ 9 _ [.int r2] _
  refine zs_if_eq hE 24 (by decide) dX12_number_9 ?_ ?_
  · refine zs_iload_n hE 0 rfl rfl dX12_number_24 ?_
    exact zs_iret hE dX12_number_25
  · refine zs_bipush hE (v := (10 : Int32)) (by decide) dX12_number_12 ?_
    refine zs_iload_n hE 0 rfl rfl dX12_number_14 ?_
    refine zs_imul hE dX12_number_15 ?_
    refine zs_aload_n hE 1 rfl rfl dX12_number_16 ?_
    refine zs_callV hE (As := []) (encA := encI) (ci := 27) rfl (fun y0 => met_X12_digit K y0) q2566 q153 q2563 q2565 (zq qs36) hd_X12_digit (by decide) (by decide) rfl (by simp [zcat_rf, zcat_i, zcat_j, zcat_f, zcat_d]) (fun z hz => by cases hz) dX12_number_17 (fun r3 => ?_)
    show zS _ 20 _ [.int r3, .int ((10 : Int32) * r1)] _
    refine zs_iadd hE dX12_number_20 ?_
    refine zs_goto hE 25 (by decide) dX12_number_21 ?_
    exact zs_iret hE dX12_number_25
theorem hd_X12_number : (yX12_number).cls ≠ "java/lang/invoke/MethodHandle" ∧ (yX12_number).cls ≠ "java/lang/invoke/VarHandle" ∧ (parseMethodDescriptor (yX12_number).desc).map (fun d => d.parameters.length) = some 0 := by decide +kernel
theorem met_X12_number (K : ZK) (this : Nat) : zMeth K yX12_number (zws yX12_number cX12_number 2 (Option.some Jvm.ClassFile.FieldType.int)) 8 245 [.ref this] encI (s_X12_number K this) :=
  fun l G hl hK => zmet_of hl hK (by decide +kernel) rfl rfl (by simp [zsl_nil, zsl_rf, zsl_r, zsl_i, zsl_j, zsl_f, zsl_d]) (fun x hE => by simp only [zla_nil, zla_rf, zla_r, zla_i, zla_j, zla_f, zla_d, Nat.reduceAdd]; exact sm_X12_number hE this)
theorem sm_X12_ticking_J15 {x : ZX (Option Nat)} {K : ZK} (hE : zE x K cX12_ticking RX12 "ticking" 2 9 266 encR (Option.some (Jvm.ClassFile.FieldType.object "TokenRing$Order")) []) (x0 : Nat) (t0 : Int32) : zS x 15 [(0, va_rf (some x0))] [.int t0] (s_X12_ticking_J15 K x0 t0) := by
  unfold s_X12_ticking_J15
  refine zs_istore_n hE (i := 1) (q := 1) rfl (by decide) (zcat_rf (some x0)) (lv' := [(0, va_rf (some x0))]) rfl dX12_ticking_15 ?_
  refine zs_new hE (ci := 32) (fs := [.null, .int 0, .null]) rfl in_X18 tyX18 tyX18_ok q2658 q2659 q160 (fun j hj => by rcases (show j = 0 ∨ j = 1 ∨ j = 2 by omega) with rfl | rfl | rfl <;> rfl) dX12_ticking_16 (fun q2 => ?_)
  refine zs_dup hE (zcat_rf _) dX12_ticking_19 ?_
  refine zs_aload_n hE 1 rfl rfl dX12_ticking_20 ?_
  refine zs_iload_n hE 0 rfl rfl dX12_ticking_21 ?_
  refine zs_callI hE (As := [va_rf (some x0), .int t0]) (encA := encV) (met_X18_init K q2 (some x0) t0) q2662 q160 q2660 q2661 rfl hd_X18_init (by decide) (by decide) rfl (by simp [zcat_rf, zcat_i, zcat_j, zcat_f, zcat_d]) (fun z hz => by cases hz) dX12_ticking_22 (fun _ => ?_)
  show zS _ 25 _ [va_rf (some q2)] _
  exact zs_aret hE (Or.inl ⟨_, rfl⟩) dX12_ticking_25
theorem sm_X12_ticking {x : ZX (Option Nat)} {K : ZK} (hE : zE x K cX12_ticking RX12 "ticking" 2 9 266 encR (Option.some (Jvm.ClassFile.FieldType.object "TokenRing$Order")) []) (this : Nat) : zS x 0 [(0, va_rf (some this))] [] (s_X12_ticking K this) := by
  unfold s_X12_ticking
  refine zs_aload_n hE 0 rfl rfl dX12_ticking_0 ?_
  refine zs_callV hE (As := []) (encA := encI) (ci := 27) rfl (fun y0 => met_X12_isDigit K y0) q2570 q153 q2567 q2569 (zq qs37) hd_X12_isDigit (by decide) (by decide) rfl (by simp [zcat_rf, zcat_i, zcat_j, zcat_f, zcat_d]) (fun z hz => by cases hz) dX12_ticking_1 (fun r1 => ?_)
  show zS _ 4 _ [.int r1] _
  refine zs_if_eq hE 14 (by decide) dX12_ticking_4 ?_ ?_
  · refine zs_iconst hE (v := (1 : Int32)) (by decide) dX12_ticking_14 ?_
    exact sm_X12_ticking_J15 hE this (1 : Int32)
  · refine zs_aload_n hE 0 rfl rfl dX12_ticking_7 ?_
    refine zs_callV hE (As := []) (encA := encI) (ci := 27) rfl (fun y0 => met_X12_number K y0) q2562 q153 q2559 q2561 (zq qs35) hd_X12_number (by decide) (by decide) rfl (by simp [zcat_rf, zcat_i, zcat_j, zcat_f, zcat_d]) (fun z hz => by cases hz) dX12_ticking_8 (fun r3 => ?_)
    show zS _ 11 _ [.int r3] _
    refine zs_goto hE 15 (by decide) dX12_ticking_11 ?_
    exact sm_X12_ticking_J15 hE this r3
theorem hd_X12_ticking : (yX12_ticking).cls ≠ "java/lang/invoke/MethodHandle" ∧ (yX12_ticking).cls ≠ "java/lang/invoke/VarHandle" ∧ (parseMethodDescriptor (yX12_ticking).desc).map (fun d => d.parameters.length) = some 0 := by decide +kernel
theorem met_X12_ticking (K : ZK) (this : Nat) : zMeth K yX12_ticking (zws yX12_ticking cX12_ticking 2 (Option.some (Jvm.ClassFile.FieldType.object "TokenRing$Order"))) 9 266 [.ref this] encR (s_X12_ticking K this) :=
  fun l G hl hK => zmet_of hl hK (by decide +kernel) rfl rfl (by simp [zsl_nil, zsl_rf, zsl_r, zsl_i, zsl_j, zsl_f, zsl_d]) (fun x hE => by simp only [zla_nil, zla_rf, zla_r, zla_i, zla_j, zla_f, zla_d, Nat.reduceAdd]; exact sm_X12_ticking hE this)
theorem sm_X13_init__X17 {x : ZX Unit} {K : ZK} (hE : zE x K cX13_init RX13 "<init>" 2 1 100 encV none []) (this : Nat) (a1 : Option Nat) : zS x 0 [(0, va_rf (some this)), (1, va_rf a1)] [] (s_X13_init__X17 K this a1) := by
  unfold s_X13_init__X17
  refine zs_aload_n hE 0 rfl rfl dX13_init_0 ?_
  refine zs_aload_n hE 1 rfl rfl dX13_init_1 ?_
  refine zs_putR hE (ci := 31) (k := 0) rfl (by decide) in_X17 (Or.inl q2582) (Or.inl rfl) (Or.inr ⟨rfl, rfl, rfl⟩) (fun _ => q2582) (tyX17_ok 0 (by decide)) (Or.inl ⟨_, rfl⟩) dX13_init_2 ?_
  refine zs_aload_n hE 0 rfl rfl dX13_init_5 ?_
  refine zs_objInit hE q2579 q169 q170 (by decide) (by first | decide | simp [zcat_rf, zcat_i, zcat_j, zcat_f, zcat_d]) dX13_init_6 ?_
  exact zs_vret hE dX13_init_9
theorem hd_X13_init__X17 : (yX13_init).cls ≠ "java/lang/invoke/MethodHandle" ∧ (yX13_init).cls ≠ "java/lang/invoke/VarHandle" ∧ (parseMethodDescriptor (yX13_init).desc).map (fun d => d.parameters.length) = some 1 := by decide +kernel
theorem met_X13_init__X17 (K : ZK) (this : Nat) (a1 : Option Nat) : zMeth K yX13_init (zws yX13_init cX13_init 2 none) 1 100 [.ref this, va_rf a1] encV (s_X13_init__X17 K this a1) :=
  fun l G hl hK => zmet_of hl hK (by decide +kernel) rfl rfl (by simp [zsl_nil, zsl_rf, zsl_r, zsl_i, zsl_j, zsl_f, zsl_d]) (fun x hE => by simp only [zla_nil, zla_rf, zla_r, zla_i, zla_j, zla_f, zla_d, Nat.reduceAdd]; exact sm_X13_init__X17 hE this a1)
theorem sm_X17_init {x : ZX Unit} {K : ZK} (hE : zE x K cX17_init RX17 "<init>" 3 2 121 encV none []) (this : Nat) (a1 : Option Nat) (a2 : Int32) : zS x 0 [(0, va_rf (some this)), (1, va_rf a1), (2, .int a2)] [] (s_X17_init K this a1 a2) := by
  unfold s_X17_init
  refine zs_aload_n hE 0 rfl rfl dX17_init_0 ?_
  refine zs_aload_n hE 1 rfl rfl dX17_init_1 ?_
  refine zs_putR hE (ci := 31) (k := 2) rfl (by decide) in_X17 (Or.inl q2647) (Or.inl rfl) (Or.inr ⟨rfl, rfl, rfl⟩) (fun _ => q2647) (tyX17_ok 2 (by decide)) (Or.inl ⟨_, rfl⟩) dX17_init_2 ?_
  refine zs_aload_n hE 0 rfl rfl dX17_init_5 ?_
  refine zs_iload_n hE 2 rfl rfl dX17_init_6 ?_
  refine zs_putI hE (ci := 31) (k := 1) rfl (by decide) in_X17 (Or.inl q2646) (Or.inl rfl) (Or.inr ⟨rfl, rfl, rfl⟩) (fun _ => q2646) rfl dX17_init_7 ?_
  refine zs_aload_n hE 0 rfl rfl dX17_init_10 ?_
  refine zs_aload_n hE 1 rfl rfl dX17_init_11 ?_
  refine zs_getR hE (ci := 27) (k := 4) rfl (by decide) in_X12 (Or.inl q2482) (Or.inl rfl) dX17_init_12 (fun v1 => ?_)
  refine zs_callIN hE (As := [va_rf v1]) (encA := encV) (met_X13_init__X17 K this v1) q2578 q155 (zn q2645 rfl) q2577 rfl hd_X13_init__X17 (by decide) (by decide) rfl (by simp [zcat_rf, zcat_i, zcat_j, zcat_f, zcat_d]) (fun z hz => by cases hz) dX17_init_15 (fun _ => ?_)
  show zS _ 18 _ [] _
  exact zs_vret hE dX17_init_18
theorem hd_X17_init : (yX17_init).cls ≠ "java/lang/invoke/MethodHandle" ∧ (yX17_init).cls ≠ "java/lang/invoke/VarHandle" ∧ (parseMethodDescriptor (yX17_init).desc).map (fun d => d.parameters.length) = some 2 := by decide +kernel
theorem met_X17_init (K : ZK) (this : Nat) (a1 : Option Nat) (a2 : Int32) : zMeth K yX17_init (zws yX17_init cX17_init 3 none) 2 121 [.ref this, va_rf a1, .int a2] encV (s_X17_init K this a1 a2) :=
  fun l G hl hK => zmet_of hl hK (by decide +kernel) rfl rfl (by simp [zsl_nil, zsl_rf, zsl_r, zsl_i, zsl_j, zsl_f, zsl_d]) (fun x hE => by simp only [zla_nil, zla_rf, zla_r, zla_i, zla_j, zla_f, zla_d, Nat.reduceAdd]; exact sm_X17_init hE this a1 a2)
theorem sm_X12_watching {x : ZX (Option Nat)} {K : ZK} (hE : zE x K cX12_watching RX12 "watching" 2 9 266 encR (Option.some (Jvm.ClassFile.FieldType.object "TokenRing$Order")) []) (this : Nat) : zS x 0 [(0, va_rf (some this))] [] (s_X12_watching K this) := by
  unfold s_X12_watching
  refine zs_aload_n hE 0 rfl rfl dX12_watching_0 ?_
  refine zs_callV hE (As := []) (encA := encI) (ci := 27) rfl (fun y0 => met_X12_number K y0) q2562 q153 q2559 q2561 (zq qs35) hd_X12_number (by decide) (by decide) rfl (by simp [zcat_rf, zcat_i, zcat_j, zcat_f, zcat_d]) (fun z hz => by cases hz) dX12_watching_1 (fun r1 => ?_)
  show zS _ 4 _ [.int r1] _
  refine zs_istore_n hE (i := 1) (q := 1) rfl (by decide) (zcat_rf (some this)) (lv' := [(0, va_rf (some this))]) rfl dX12_watching_4 ?_
  refine zs_new hE (ci := 31) (fs := [.null, .int 0, .null]) rfl in_X17 tyX17 tyX17_ok q2640 q2641 q159 (fun j hj => by rcases (show j = 0 ∨ j = 1 ∨ j = 2 by omega) with rfl | rfl | rfl <;> rfl) dX12_watching_5 (fun q2 => ?_)
  refine zs_dup hE (zcat_rf _) dX12_watching_8 ?_
  refine zs_aload_n hE 1 rfl rfl dX12_watching_9 ?_
  refine zs_iload_n hE 0 rfl rfl dX12_watching_10 ?_
  refine zs_callI hE (As := [va_rf (some this), .int r1]) (encA := encV) (met_X17_init K q2 (some this) r1) q2644 q159 q2642 q2643 rfl hd_X17_init (by decide) (by decide) rfl (by simp [zcat_rf, zcat_i, zcat_j, zcat_f, zcat_d]) (fun z hz => by cases hz) dX12_watching_11 (fun _ => ?_)
  show zS _ 14 _ [va_rf (some q2)] _
  exact zs_aret hE (Or.inl ⟨_, rfl⟩) dX12_watching_14
theorem hd_X12_watching : (yX12_watching).cls ≠ "java/lang/invoke/MethodHandle" ∧ (yX12_watching).cls ≠ "java/lang/invoke/VarHandle" ∧ (parseMethodDescriptor (yX12_watching).desc).map (fun d => d.parameters.length) = some 0 := by decide +kernel
theorem met_X12_watching (K : ZK) (this : Nat) : zMeth K yX12_watching (zws yX12_watching cX12_watching 2 (Option.some (Jvm.ClassFile.FieldType.object "TokenRing$Order"))) 9 266 [.ref this] encR (s_X12_watching K this) :=
  fun l G hl hK => zmet_of hl hK (by decide +kernel) rfl rfl (by simp [zsl_nil, zsl_rf, zsl_r, zsl_i, zsl_j, zsl_f, zsl_d]) (fun x hE => by simp only [zla_nil, zla_rf, zla_r, zla_i, zla_j, zla_f, zla_d, Nat.reduceAdd]; exact sm_X12_watching hE this)
theorem sm_X13_init__X16 {x : ZX Unit} {K : ZK} (hE : zE x K cX13_init RX13 "<init>" 2 1 100 encV none []) (this : Nat) (a1 : Option Nat) : zS x 0 [(0, va_rf (some this)), (1, va_rf a1)] [] (s_X13_init__X16 K this a1) := by
  unfold s_X13_init__X16
  refine zs_aload_n hE 0 rfl rfl dX13_init_0 ?_
  refine zs_aload_n hE 1 rfl rfl dX13_init_1 ?_
  refine zs_putR hE (ci := 30) (k := 0) rfl (by decide) in_X16 (Or.inl q2582) (Or.inl rfl) (Or.inr ⟨rfl, rfl, rfl⟩) (fun _ => q2582) (tyX16_ok 0 (by decide)) (Or.inl ⟨_, rfl⟩) dX13_init_2 ?_
  refine zs_aload_n hE 0 rfl rfl dX13_init_5 ?_
  refine zs_objInit hE q2579 q169 q170 (by decide) (by first | decide | simp [zcat_rf, zcat_i, zcat_j, zcat_f, zcat_d]) dX13_init_6 ?_
  exact zs_vret hE dX13_init_9
theorem hd_X13_init__X16 : (yX13_init).cls ≠ "java/lang/invoke/MethodHandle" ∧ (yX13_init).cls ≠ "java/lang/invoke/VarHandle" ∧ (parseMethodDescriptor (yX13_init).desc).map (fun d => d.parameters.length) = some 1 := by decide +kernel
theorem met_X13_init__X16 (K : ZK) (this : Nat) (a1 : Option Nat) : zMeth K yX13_init (zws yX13_init cX13_init 2 none) 1 100 [.ref this, va_rf a1] encV (s_X13_init__X16 K this a1) :=
  fun l G hl hK => zmet_of hl hK (by decide +kernel) rfl rfl (by simp [zsl_nil, zsl_rf, zsl_r, zsl_i, zsl_j, zsl_f, zsl_d]) (fun x hE => by simp only [zla_nil, zla_rf, zla_r, zla_i, zla_j, zla_f, zla_d, Nat.reduceAdd]; exact sm_X13_init__X16 hE this a1)
theorem sm_X16_init {x : ZX Unit} {K : ZK} (hE : zE x K cX16_init RX16 "<init>" 5 2 121 encV none []) (this : Nat) (a1 : Option Nat) (a2 : Int32) (a3 : Int32) (a4 : Int32) : zS x 0 [(0, va_rf (some this)), (1, va_rf a1), (2, .int a2), (3, .int a3), (4, .int a4)] [] (s_X16_init K this a1 a2 a3 a4) := by
  unfold s_X16_init
  refine zs_aload_n hE 0 rfl rfl dX16_init_0 ?_
  refine zs_aload_n hE 1 rfl rfl dX16_init_1 ?_
  refine zs_putR hE (ci := 30) (k := 4) rfl (by decide) in_X16 (Or.inl q2625) (Or.inl rfl) (Or.inr ⟨rfl, rfl, rfl⟩) (fun _ => q2625) (tyX16_ok 4 (by decide)) (Or.inl ⟨_, rfl⟩) dX16_init_2 ?_
  refine zs_aload_n hE 0 rfl rfl dX16_init_5 ?_
  refine zs_iload_n hE 2 rfl rfl dX16_init_6 ?_
  refine zs_putI hE (ci := 30) (k := 1) rfl (by decide) in_X16 (Or.inl q2622) (Or.inl rfl) (Or.inr ⟨rfl, rfl, rfl⟩) (fun _ => q2622) rfl dX16_init_7 ?_
  refine zs_aload_n hE 0 rfl rfl dX16_init_10 ?_
  refine zs_iload_n hE 3 rfl rfl dX16_init_11 ?_
  refine zs_putI hE (ci := 30) (k := 2) rfl (by decide) in_X16 (Or.inl q2623) (Or.inl rfl) (Or.inr ⟨rfl, rfl, rfl⟩) (fun _ => q2623) rfl dX16_init_12 ?_
  refine zs_aload_n hE 0 rfl rfl dX16_init_15 ?_
  refine zs_iload hE 4 rfl dX16_init_16 ?_
  refine zs_putI hE (ci := 30) (k := 3) rfl (by decide) in_X16 (Or.inl q2624) (Or.inl rfl) (Or.inr ⟨rfl, rfl, rfl⟩) (fun _ => q2624) rfl dX16_init_18 ?_
  refine zs_aload_n hE 0 rfl rfl dX16_init_21 ?_
  refine zs_aload_n hE 1 rfl rfl dX16_init_22 ?_
  refine zs_getR hE (ci := 27) (k := 4) rfl (by decide) in_X12 (Or.inl q2484) (Or.inl rfl) dX16_init_23 (fun v1 => ?_)
  refine zs_callIN hE (As := [va_rf v1]) (encA := encV) (met_X13_init__X16 K this v1) q2578 q155 (zn q2621 rfl) q2577 rfl hd_X13_init__X16 (by decide) (by decide) rfl (by simp [zcat_rf, zcat_i, zcat_j, zcat_f, zcat_d]) (fun z hz => by cases hz) dX16_init_26 (fun _ => ?_)
  show zS _ 29 _ [] _
  exact zs_vret hE dX16_init_29
theorem hd_X16_init : (yX16_init).cls ≠ "java/lang/invoke/MethodHandle" ∧ (yX16_init).cls ≠ "java/lang/invoke/VarHandle" ∧ (parseMethodDescriptor (yX16_init).desc).map (fun d => d.parameters.length) = some 4 := by decide +kernel
theorem met_X16_init (K : ZK) (this : Nat) (a1 : Option Nat) (a2 : Int32) (a3 : Int32) (a4 : Int32) : zMeth K yX16_init (zws yX16_init cX16_init 5 none) 2 121 [.ref this, va_rf a1, .int a2, .int a3, .int a4] encV (s_X16_init K this a1 a2 a3 a4) :=
  fun l G hl hK => zmet_of hl hK (by decide +kernel) rfl rfl (by simp [zsl_nil, zsl_rf, zsl_r, zsl_i, zsl_j, zsl_f, zsl_d]) (fun x hE => by simp only [zla_nil, zla_rf, zla_r, zla_i, zla_j, zla_f, zla_d, Nat.reduceAdd]; exact sm_X16_init hE this a1 a2 a3 a4)
theorem sm_X12_queueing {x : ZX (Option Nat)} {K : ZK} (hE : zE x K cX12_queueing RX12 "queueing" 4 9 266 encR (Option.some (Jvm.ClassFile.FieldType.object "TokenRing$Order")) []) (this : Nat) : zS x 0 [(0, va_rf (some this))] [] (s_X12_queueing K this) := by
  unfold s_X12_queueing
  refine zs_aload_n hE 0 rfl rfl dX12_queueing_0 ?_
  refine zs_callV hE (As := []) (encA := encI) (ci := 27) rfl (fun y0 => met_X12_number K y0) q2562 q153 q2559 q2561 (zq qs35) hd_X12_number (by decide) (by decide) rfl (by simp [zcat_rf, zcat_i, zcat_j, zcat_f, zcat_d]) (fun z hz => by cases hz) dX12_queueing_1 (fun r1 => ?_)
  show zS _ 4 _ [.int r1] _
  refine zs_istore_n hE (i := 1) (q := 1) rfl (by decide) (zcat_rf (some this)) (lv' := [(0, va_rf (some this))]) rfl dX12_queueing_4 ?_
  refine zs_aload_n hE 1 rfl rfl dX12_queueing_5 ?_
  refine zs_bipush hE (v := (62 : Int32)) (by decide) dX12_queueing_6 ?_
  refine zs_callV hE (As := [.int (62 : Int32)]) (encA := encV) (ci := 27) rfl (fun y0 => met_X12_wants K y0 (62 : Int32)) q2615 q153 q2612 q2614 (zq qs40) hd_X12_wants (by decide) (by decide) rfl (by simp [zcat_rf, zcat_i, zcat_j, zcat_f, zcat_d]) (fun z hz => by cases hz) dX12_queueing_8 (fun _ => ?_)
  show zS _ 11 _ [] _
  refine zs_aload_n hE 1 rfl rfl dX12_queueing_11 ?_
  refine zs_callV hE (As := []) (encA := encI) (ci := 27) rfl (fun y0 => met_X12_number K y0) q2562 q153 q2559 q2561 (zq qs35) hd_X12_number (by decide) (by decide) rfl (by simp [zcat_rf, zcat_i, zcat_j, zcat_f, zcat_d]) (fun z hz => by cases hz) dX12_queueing_12 (fun r2 => ?_)
  show zS _ 15 _ [.int r2] _
  refine zs_istore_n hE (i := 2) (q := 2) rfl (by decide) (rfl) (lv' := [(1, .int r1), (0, va_rf (some this))]) rfl dX12_queueing_15 ?_
  refine zs_aload_n hE 2 rfl rfl dX12_queueing_16 ?_
  refine zs_bipush hE (v := (42 : Int32)) (by decide) dX12_queueing_17 ?_
  refine zs_callV hE (As := [.int (42 : Int32)]) (encA := encV) (ci := 27) rfl (fun y0 => met_X12_wants K y0 (42 : Int32)) q2615 q153 q2612 q2614 (zq qs40) hd_X12_wants (by decide) (by decide) rfl (by simp [zcat_rf, zcat_i, zcat_j, zcat_f, zcat_d]) (fun z hz => by cases hz) dX12_queueing_19 (fun _ => ?_)
  show zS _ 22 _ [] _
  refine zs_aload_n hE 2 rfl rfl dX12_queueing_22 ?_
  refine zs_callV hE (As := []) (encA := encI) (ci := 27) rfl (fun y0 => met_X12_digit K y0) q2566 q153 q2563 q2565 (zq qs36) hd_X12_digit (by decide) (by decide) rfl (by simp [zcat_rf, zcat_i, zcat_j, zcat_f, zcat_d]) (fun z hz => by cases hz) dX12_queueing_23 (fun r3 => ?_)
  show zS _ 26 _ [.int r3] _
  refine zs_istore_n hE (i := 3) (q := 3) rfl (by decide) (rfl) (lv' := [(2, .int r2), (1, .int r1), (0, va_rf (some this))]) rfl dX12_queueing_26 ?_
  refine zs_new hE (ci := 30) (fs := [.null, .int 0, .int 0, .int 0, .null]) rfl in_X16 tyX16 tyX16_ok q2616 q2617 q158 (fun j hj => by rcases (show j = 0 ∨ j = 1 ∨ j = 2 ∨ j = 3 ∨ j = 4 by omega) with rfl | rfl | rfl | rfl | rfl <;> rfl) dX12_queueing_27 (fun q4 => ?_)
  refine zs_dup hE (zcat_rf _) dX12_queueing_30 ?_
  refine zs_aload_n hE 3 rfl rfl dX12_queueing_31 ?_
  refine zs_iload_n hE 2 rfl rfl dX12_queueing_32 ?_
  refine zs_iload_n hE 1 rfl rfl dX12_queueing_33 ?_
  refine zs_iload_n hE 0 rfl rfl dX12_queueing_34 ?_
  refine zs_callI hE (As := [va_rf (some this), .int r1, .int r2, .int r3]) (encA := encV) (met_X16_init K q4 (some this) r1 r2 r3) q2620 q158 q2618 q2619 rfl hd_X16_init (by decide) (by decide) rfl (by simp [zcat_rf, zcat_i, zcat_j, zcat_f, zcat_d]) (fun z hz => by cases hz) dX12_queueing_35 (fun _ => ?_)
  show zS _ 38 _ [va_rf (some q4)] _
  exact zs_aret hE (Or.inl ⟨_, rfl⟩) dX12_queueing_38
theorem hd_X12_queueing : (yX12_queueing).cls ≠ "java/lang/invoke/MethodHandle" ∧ (yX12_queueing).cls ≠ "java/lang/invoke/VarHandle" ∧ (parseMethodDescriptor (yX12_queueing).desc).map (fun d => d.parameters.length) = some 0 := by decide +kernel
theorem met_X12_queueing (K : ZK) (this : Nat) : zMeth K yX12_queueing (zws yX12_queueing cX12_queueing 4 (Option.some (Jvm.ClassFile.FieldType.object "TokenRing$Order"))) 9 266 [.ref this] encR (s_X12_queueing K this) :=
  fun l G hl hK => zmet_of hl hK (by decide +kernel) rfl rfl (by simp [zsl_nil, zsl_rf, zsl_r, zsl_i, zsl_j, zsl_f, zsl_d]) (fun x hE => by simp only [zla_nil, zla_rf, zla_r, zla_i, zla_j, zla_f, zla_d, Nat.reduceAdd]; exact sm_X12_queueing hE this)
theorem sm_X13_init__X15 {x : ZX Unit} {K : ZK} (hE : zE x K cX13_init RX13 "<init>" 2 1 100 encV none []) (this : Nat) (a1 : Option Nat) : zS x 0 [(0, va_rf (some this)), (1, va_rf a1)] [] (s_X13_init__X15 K this a1) := by
  unfold s_X13_init__X15
  refine zs_aload_n hE 0 rfl rfl dX13_init_0 ?_
  refine zs_aload_n hE 1 rfl rfl dX13_init_1 ?_
  refine zs_putR hE (ci := 29) (k := 0) rfl (by decide) in_X15 (Or.inl q2582) (Or.inl rfl) (Or.inr ⟨rfl, rfl, rfl⟩) (fun _ => q2582) (tyX15_ok 0 (by decide)) (Or.inl ⟨_, rfl⟩) dX13_init_2 ?_
  refine zs_aload_n hE 0 rfl rfl dX13_init_5 ?_
  refine zs_objInit hE q2579 q169 q170 (by decide) (by first | decide | simp [zcat_rf, zcat_i, zcat_j, zcat_f, zcat_d]) dX13_init_6 ?_
  exact zs_vret hE dX13_init_9
theorem hd_X13_init__X15 : (yX13_init).cls ≠ "java/lang/invoke/MethodHandle" ∧ (yX13_init).cls ≠ "java/lang/invoke/VarHandle" ∧ (parseMethodDescriptor (yX13_init).desc).map (fun d => d.parameters.length) = some 1 := by decide +kernel
theorem met_X13_init__X15 (K : ZK) (this : Nat) (a1 : Option Nat) : zMeth K yX13_init (zws yX13_init cX13_init 2 none) 1 100 [.ref this, va_rf a1] encV (s_X13_init__X15 K this a1) :=
  fun l G hl hK => zmet_of hl hK (by decide +kernel) rfl rfl (by simp [zsl_nil, zsl_rf, zsl_r, zsl_i, zsl_j, zsl_f, zsl_d]) (fun x hE => by simp only [zla_nil, zla_rf, zla_r, zla_i, zla_j, zla_f, zla_d, Nat.reduceAdd]; exact sm_X13_init__X15 hE this a1)
theorem sm_X15_init {x : ZX Unit} {K : ZK} (hE : zE x K cX15_init RX15 "<init>" 3 2 121 encV none []) (this : Nat) (a1 : Option Nat) (a2 : Int32) : zS x 0 [(0, va_rf (some this)), (1, va_rf a1), (2, .int a2)] [] (s_X15_init K this a1 a2) := by
  unfold s_X15_init
  refine zs_aload_n hE 0 rfl rfl dX15_init_0 ?_
  refine zs_aload_n hE 1 rfl rfl dX15_init_1 ?_
  refine zs_putR hE (ci := 29) (k := 2) rfl (by decide) in_X15 (Or.inl q2601) (Or.inl rfl) (Or.inr ⟨rfl, rfl, rfl⟩) (fun _ => q2601) (tyX15_ok 2 (by decide)) (Or.inl ⟨_, rfl⟩) dX15_init_2 ?_
  refine zs_aload_n hE 0 rfl rfl dX15_init_5 ?_
  refine zs_iload_n hE 2 rfl rfl dX15_init_6 ?_
  refine zs_putI hE (ci := 29) (k := 1) rfl (by decide) in_X15 (Or.inl q2600) (Or.inl rfl) (Or.inr ⟨rfl, rfl, rfl⟩) (fun _ => q2600) rfl dX15_init_7 ?_
  refine zs_aload_n hE 0 rfl rfl dX15_init_10 ?_
  refine zs_aload_n hE 1 rfl rfl dX15_init_11 ?_
  refine zs_getR hE (ci := 27) (k := 4) rfl (by decide) in_X12 (Or.inl q2481) (Or.inl rfl) dX15_init_12 (fun v1 => ?_)
  refine zs_callIN hE (As := [va_rf v1]) (encA := encV) (met_X13_init__X15 K this v1) q2578 q155 (zn q2599 rfl) q2577 rfl hd_X13_init__X15 (by decide) (by decide) rfl (by simp [zcat_rf, zcat_i, zcat_j, zcat_f, zcat_d]) (fun z hz => by cases hz) dX15_init_15 (fun _ => ?_)
  show zS _ 18 _ [] _
  exact zs_vret hE dX15_init_18
theorem hd_X15_init : (yX15_init).cls ≠ "java/lang/invoke/MethodHandle" ∧ (yX15_init).cls ≠ "java/lang/invoke/VarHandle" ∧ (parseMethodDescriptor (yX15_init).desc).map (fun d => d.parameters.length) = some 2 := by decide +kernel
theorem met_X15_init (K : ZK) (this : Nat) (a1 : Option Nat) (a2 : Int32) : zMeth K yX15_init (zws yX15_init cX15_init 3 none) 2 121 [.ref this, va_rf a1, .int a2] encV (s_X15_init K this a1 a2) :=
  fun l G hl hK => zmet_of hl hK (by decide +kernel) rfl rfl (by simp [zsl_nil, zsl_rf, zsl_r, zsl_i, zsl_j, zsl_f, zsl_d]) (fun x hE => by simp only [zla_nil, zla_rf, zla_r, zla_i, zla_j, zla_f, zla_d, Nat.reduceAdd]; exact sm_X15_init hE this a1 a2)
theorem sm_X12_going {x : ZX (Option Nat)} {K : ZK} (hE : zE x K cX12_going RX12 "going" 2 9 266 encR (Option.some (Jvm.ClassFile.FieldType.object "TokenRing$Order")) []) (this : Nat) : zS x 0 [(0, va_rf (some this))] [] (s_X12_going K this) := by
  unfold s_X12_going
  refine zs_aload_n hE 0 rfl rfl dX12_going_0 ?_
  refine zs_callV hE (As := []) (encA := encI) (ci := 27) rfl (fun y0 => met_X12_number K y0) q2562 q153 q2559 q2561 (zq qs35) hd_X12_number (by decide) (by decide) rfl (by simp [zcat_rf, zcat_i, zcat_j, zcat_f, zcat_d]) (fun z hz => by cases hz) dX12_going_1 (fun r1 => ?_)
  show zS _ 4 _ [.int r1] _
  refine zs_istore_n hE (i := 1) (q := 1) rfl (by decide) (zcat_rf (some this)) (lv' := [(0, va_rf (some this))]) rfl dX12_going_4 ?_
  refine zs_new hE (ci := 29) (fs := [.null, .int 0, .null]) rfl in_X15 tyX15 tyX15_ok q2594 q2595 q157 (fun j hj => by rcases (show j = 0 ∨ j = 1 ∨ j = 2 by omega) with rfl | rfl | rfl <;> rfl) dX12_going_5 (fun q2 => ?_)
  refine zs_dup hE (zcat_rf _) dX12_going_8 ?_
  refine zs_aload_n hE 1 rfl rfl dX12_going_9 ?_
  refine zs_iload_n hE 0 rfl rfl dX12_going_10 ?_
  refine zs_callI hE (As := [va_rf (some this), .int r1]) (encA := encV) (met_X15_init K q2 (some this) r1) q2598 q157 q2596 q2597 rfl hd_X15_init (by decide) (by decide) rfl (by simp [zcat_rf, zcat_i, zcat_j, zcat_f, zcat_d]) (fun z hz => by cases hz) dX12_going_11 (fun _ => ?_)
  show zS _ 14 _ [va_rf (some q2)] _
  exact zs_aret hE (Or.inl ⟨_, rfl⟩) dX12_going_14
theorem hd_X12_going : (yX12_going).cls ≠ "java/lang/invoke/MethodHandle" ∧ (yX12_going).cls ≠ "java/lang/invoke/VarHandle" ∧ (parseMethodDescriptor (yX12_going).desc).map (fun d => d.parameters.length) = some 0 := by decide +kernel
theorem met_X12_going (K : ZK) (this : Nat) : zMeth K yX12_going (zws yX12_going cX12_going 2 (Option.some (Jvm.ClassFile.FieldType.object "TokenRing$Order"))) 9 266 [.ref this] encR (s_X12_going K this) :=
  fun l G hl hK => zmet_of hl hK (by decide +kernel) rfl rfl (by simp [zsl_nil, zsl_rf, zsl_r, zsl_i, zsl_j, zsl_f, zsl_d]) (fun x hE => by simp only [zla_nil, zla_rf, zla_r, zla_i, zla_j, zla_f, zla_d, Nat.reduceAdd]; exact sm_X12_going hE this)
theorem sm_X13_init__X14 {x : ZX Unit} {K : ZK} (hE : zE x K cX13_init RX13 "<init>" 2 1 100 encV none []) (this : Nat) (a1 : Option Nat) : zS x 0 [(0, va_rf (some this)), (1, va_rf a1)] [] (s_X13_init__X14 K this a1) := by
  unfold s_X13_init__X14
  refine zs_aload_n hE 0 rfl rfl dX13_init_0 ?_
  refine zs_aload_n hE 1 rfl rfl dX13_init_1 ?_
  refine zs_putR hE (ci := 28) (k := 0) rfl (by decide) in_X14 (Or.inl q2582) (Or.inl rfl) (Or.inr ⟨rfl, rfl, rfl⟩) (fun _ => q2582) (tyX14_ok 0 (by decide)) (Or.inl ⟨_, rfl⟩) dX13_init_2 ?_
  refine zs_aload_n hE 0 rfl rfl dX13_init_5 ?_
  refine zs_objInit hE q2579 q169 q170 (by decide) (by first | decide | simp [zcat_rf, zcat_i, zcat_j, zcat_f, zcat_d]) dX13_init_6 ?_
  exact zs_vret hE dX13_init_9
theorem hd_X13_init__X14 : (yX13_init).cls ≠ "java/lang/invoke/MethodHandle" ∧ (yX13_init).cls ≠ "java/lang/invoke/VarHandle" ∧ (parseMethodDescriptor (yX13_init).desc).map (fun d => d.parameters.length) = some 1 := by decide +kernel
theorem met_X13_init__X14 (K : ZK) (this : Nat) (a1 : Option Nat) : zMeth K yX13_init (zws yX13_init cX13_init 2 none) 1 100 [.ref this, va_rf a1] encV (s_X13_init__X14 K this a1) :=
  fun l G hl hK => zmet_of hl hK (by decide +kernel) rfl rfl (by simp [zsl_nil, zsl_rf, zsl_r, zsl_i, zsl_j, zsl_f, zsl_d]) (fun x hE => by simp only [zla_nil, zla_rf, zla_r, zla_i, zla_j, zla_f, zla_d, Nat.reduceAdd]; exact sm_X13_init__X14 hE this a1)
theorem sm_X14_init {x : ZX Unit} {K : ZK} (hE : zE x K cX14_init RX14 "<init>" 3 2 121 encV none []) (this : Nat) (a1 : Option Nat) (a2 : Int32) : zS x 0 [(0, va_rf (some this)), (1, va_rf a1), (2, .int a2)] [] (s_X14_init K this a1 a2) := by
  unfold s_X14_init
  refine zs_aload_n hE 0 rfl rfl dX14_init_0 ?_
  refine zs_aload_n hE 1 rfl rfl dX14_init_1 ?_
  refine zs_putR hE (ci := 28) (k := 2) rfl (by decide) in_X14 (Or.inl q2581) (Or.inl rfl) (Or.inr ⟨rfl, rfl, rfl⟩) (fun _ => q2581) (tyX14_ok 2 (by decide)) (Or.inl ⟨_, rfl⟩) dX14_init_2 ?_
  refine zs_aload_n hE 0 rfl rfl dX14_init_5 ?_
  refine zs_iload_n hE 2 rfl rfl dX14_init_6 ?_
  refine zs_putI hE (ci := 28) (k := 1) rfl (by decide) in_X14 (Or.inl q2580) (Or.inl rfl) (Or.inr ⟨rfl, rfl, rfl⟩) (fun _ => q2580) rfl dX14_init_7 ?_
  refine zs_aload_n hE 0 rfl rfl dX14_init_10 ?_
  refine zs_aload_n hE 1 rfl rfl dX14_init_11 ?_
  refine zs_getR hE (ci := 27) (k := 4) rfl (by decide) in_X12 (Or.inl q2480) (Or.inl rfl) dX14_init_12 (fun v1 => ?_)
  refine zs_callIN hE (As := [va_rf v1]) (encA := encV) (met_X13_init__X14 K this v1) q2578 q155 (zn q2576 rfl) q2577 rfl hd_X13_init__X14 (by decide) (by decide) rfl (by simp [zcat_rf, zcat_i, zcat_j, zcat_f, zcat_d]) (fun z hz => by cases hz) dX14_init_15 (fun _ => ?_)
  show zS _ 18 _ [] _
  exact zs_vret hE dX14_init_18
theorem hd_X14_init : (yX14_init).cls ≠ "java/lang/invoke/MethodHandle" ∧ (yX14_init).cls ≠ "java/lang/invoke/VarHandle" ∧ (parseMethodDescriptor (yX14_init).desc).map (fun d => d.parameters.length) = some 2 := by decide +kernel
theorem met_X14_init (K : ZK) (this : Nat) (a1 : Option Nat) (a2 : Int32) : zMeth K yX14_init (zws yX14_init cX14_init 3 none) 2 121 [.ref this, va_rf a1, .int a2] encV (s_X14_init K this a1 a2) :=
  fun l G hl hK => zmet_of hl hK (by decide +kernel) rfl rfl (by simp [zsl_nil, zsl_rf, zsl_r, zsl_i, zsl_j, zsl_f, zsl_d]) (fun x hE => by simp only [zla_nil, zla_rf, zla_r, zla_i, zla_j, zla_f, zla_d, Nat.reduceAdd]; exact sm_X14_init hE this a1 a2)
theorem sm_X12_coming {x : ZX (Option Nat)} {K : ZK} (hE : zE x K cX12_coming RX12 "coming" 2 9 266 encR (Option.some (Jvm.ClassFile.FieldType.object "TokenRing$Order")) []) (this : Nat) : zS x 0 [(0, va_rf (some this))] [] (s_X12_coming K this) := by
  unfold s_X12_coming
  refine zs_aload_n hE 0 rfl rfl dX12_coming_0 ?_
  refine zs_callV hE (As := []) (encA := encI) (ci := 27) rfl (fun y0 => met_X12_number K y0) q2562 q153 q2559 q2561 (zq qs35) hd_X12_number (by decide) (by decide) rfl (by simp [zcat_rf, zcat_i, zcat_j, zcat_f, zcat_d]) (fun z hz => by cases hz) dX12_coming_1 (fun r1 => ?_)
  show zS _ 4 _ [.int r1] _
  refine zs_istore_n hE (i := 1) (q := 1) rfl (by decide) (zcat_rf (some this)) (lv' := [(0, va_rf (some this))]) rfl dX12_coming_4 ?_
  refine zs_new hE (ci := 28) (fs := [.null, .int 0, .null]) rfl in_X14 tyX14 tyX14_ok q2571 q2572 q156 (fun j hj => by rcases (show j = 0 ∨ j = 1 ∨ j = 2 by omega) with rfl | rfl | rfl <;> rfl) dX12_coming_5 (fun q2 => ?_)
  refine zs_dup hE (zcat_rf _) dX12_coming_8 ?_
  refine zs_aload_n hE 1 rfl rfl dX12_coming_9 ?_
  refine zs_iload_n hE 0 rfl rfl dX12_coming_10 ?_
  refine zs_callI hE (As := [va_rf (some this), .int r1]) (encA := encV) (met_X14_init K q2 (some this) r1) q2575 q156 q2573 q2574 rfl hd_X14_init (by decide) (by decide) rfl (by simp [zcat_rf, zcat_i, zcat_j, zcat_f, zcat_d]) (fun z hz => by cases hz) dX12_coming_11 (fun _ => ?_)
  show zS _ 14 _ [va_rf (some q2)] _
  exact zs_aret hE (Or.inl ⟨_, rfl⟩) dX12_coming_14
theorem hd_X12_coming : (yX12_coming).cls ≠ "java/lang/invoke/MethodHandle" ∧ (yX12_coming).cls ≠ "java/lang/invoke/VarHandle" ∧ (parseMethodDescriptor (yX12_coming).desc).map (fun d => d.parameters.length) = some 0 := by decide +kernel
theorem met_X12_coming (K : ZK) (this : Nat) : zMeth K yX12_coming (zws yX12_coming cX12_coming 2 (Option.some (Jvm.ClassFile.FieldType.object "TokenRing$Order"))) 9 266 [.ref this] encR (s_X12_coming K this) :=
  fun l G hl hK => zmet_of hl hK (by decide +kernel) rfl rfl (by simp [zsl_nil, zsl_rf, zsl_r, zsl_i, zsl_j, zsl_f, zsl_d]) (fun x hE => by simp only [zla_nil, zla_rf, zla_r, zla_i, zla_j, zla_f, zla_d, Nat.reduceAdd]; exact sm_X12_coming hE this)
theorem sm_X12_order {x : ZX (Option Nat)} {K : ZK} (hE : zE x K cX12_order RX12 "order" 1 10 289 encR (Option.some (Jvm.ClassFile.FieldType.object "TokenRing$Order")) []) (this : Nat) : zS x 0 [(0, va_rf (some this))] [] (s_X12_order K this) := by
  unfold s_X12_order
  refine zs_aload_n hE 0 rfl rfl dX12_order_0 ?_
  refine zs_bipush hE (v := (43 : Int32)) (by decide) dX12_order_1 ?_
  refine zs_callV hE (As := [.int (43 : Int32)]) (encA := encI) (ci := 27) rfl (fun y0 => met_X12_takes K y0 (43 : Int32)) q2507 q153 q2504 q2506 (zq qs32) hd_X12_takes (by decide) (by decide) rfl (by simp [zcat_rf, zcat_i, zcat_j, zcat_f, zcat_d]) (fun z hz => by cases hz) dX12_order_3 (fun r1 => ?_)
  show zS _ 6 _ [.int r1] _
  refine zs_if_eq hE 14 (by decide) dX12_order_6 ?_ ?_
  · refine zs_aload_n hE 0 rfl rfl dX12_order_14 ?_
    refine zs_bipush hE (v := (45 : Int32)) (by decide) dX12_order_15 ?_
    refine zs_callV hE (As := [.int (45 : Int32)]) (encA := encI) (ci := 27) rfl (fun y0 => met_X12_takes K y0 (45 : Int32)) q2507 q153 q2504 q2506 (zq qs32) hd_X12_takes (by decide) (by decide) rfl (by simp [zcat_rf, zcat_i, zcat_j, zcat_f, zcat_d]) (fun z hz => by cases hz) dX12_order_17 (fun r2 => ?_)
    show zS _ 20 _ [.int r2] _
    refine zs_if_eq hE 28 (by decide) dX12_order_20 ?_ ?_
    · refine zs_aload_n hE 0 rfl rfl dX12_order_28 ?_
      refine zs_bipush hE (v := (113 : Int32)) (by decide) dX12_order_29 ?_
      refine zs_callV hE (As := [.int (113 : Int32)]) (encA := encI) (ci := 27) rfl (fun y0 => met_X12_takes K y0 (113 : Int32)) q2507 q153 q2504 q2506 (zq qs32) hd_X12_takes (by decide) (by decide) rfl (by simp [zcat_rf, zcat_i, zcat_j, zcat_f, zcat_d]) (fun z hz => by cases hz) dX12_order_31 (fun r3 => ?_)
      show zS _ 34 _ [.int r3] _
      refine zs_if_eq hE 42 (by decide) dX12_order_34 ?_ ?_
      · refine zs_aload_n hE 0 rfl rfl dX12_order_42 ?_
        refine zs_bipush hE (v := (109 : Int32)) (by decide) dX12_order_43 ?_
        refine zs_callV hE (As := [.int (109 : Int32)]) (encA := encI) (ci := 27) rfl (fun y0 => met_X12_takes K y0 (109 : Int32)) q2507 q153 q2504 q2506 (zq qs32) hd_X12_takes (by decide) (by decide) rfl (by simp [zcat_rf, zcat_i, zcat_j, zcat_f, zcat_d]) (fun z hz => by cases hz) dX12_order_45 (fun r4 => ?_)
        show zS _ 48 _ [.int r4] _
        refine zs_if_eq hE 56 (by decide) dX12_order_48 ?_ ?_
        · refine zs_aload_n hE 0 rfl rfl dX12_order_56 ?_
          refine zs_bipush hE (v := (116 : Int32)) (by decide) dX12_order_57 ?_
          refine zs_callV hE (As := [.int (116 : Int32)]) (encA := encI) (ci := 27) rfl (fun y0 => met_X12_takes K y0 (116 : Int32)) q2507 q153 q2504 q2506 (zq qs32) hd_X12_takes (by decide) (by decide) rfl (by simp [zcat_rf, zcat_i, zcat_j, zcat_f, zcat_d]) (fun z hz => by cases hz) dX12_order_59 (fun r5 => ?_)
          show zS _ 62 _ [.int r5] _
          refine zs_if_eq hE 72 (by decide) dX12_order_62 ?_ ?_
          · refine zs_aload_n hE 0 rfl rfl dX12_order_72 ?_
            refine zs_callV hE (As := []) (encA := encR) (ci := 27) rfl (fun y0 => met_X12_losing K y0) q2675 q153 q2672 q2674 (zq qs43) hd_X12_losing (by decide) (by decide) rfl (by simp [zcat_rf, zcat_i, zcat_j, zcat_f, zcat_d]) (fun z hz => by cases hz) dX12_order_73 (fun r6 => ?_)
            show zS _ 76 _ [va_rf r6] _
            exact zs_aret hE (Or.inl ⟨_, rfl⟩) dX12_order_76
          · refine zs_aload_n hE 0 rfl rfl dX12_order_65 ?_
            refine zs_callV hE (As := []) (encA := encR) (ci := 27) rfl (fun y0 => met_X12_ticking K y0) q2657 q153 q2654 q2656 (zq qs42) hd_X12_ticking (by decide) (by decide) rfl (by simp [zcat_rf, zcat_i, zcat_j, zcat_f, zcat_d]) (fun z hz => by cases hz) dX12_order_66 (fun r7 => ?_)
            show zS _ 69 _ [va_rf r7] _
            refine zs_goto hE 76 (by decide) dX12_order_69 ?_
            exact zs_aret hE (Or.inl ⟨_, rfl⟩) dX12_order_76
        · refine zs_aload_n hE 0 rfl rfl dX12_order_51 ?_
          refine zs_callV hE (As := []) (encA := encR) (ci := 27) rfl (fun y0 => met_X12_watching K y0) q2639 q153 q2636 q2638 (zq qs41) hd_X12_watching (by decide) (by decide) rfl (by simp [zcat_rf, zcat_i, zcat_j, zcat_f, zcat_d]) (fun z hz => by cases hz) dX12_order_52 (fun r8 => ?_)
          show zS _ 55 _ [va_rf r8] _
          exact zs_aret hE (Or.inl ⟨_, rfl⟩) dX12_order_55
      · refine zs_aload_n hE 0 rfl rfl dX12_order_37 ?_
        refine zs_callV hE (As := []) (encA := encR) (ci := 27) rfl (fun y0 => met_X12_queueing K y0) q2611 q153 q2608 q2610 (zq qs39) hd_X12_queueing (by decide) (by decide) rfl (by simp [zcat_rf, zcat_i, zcat_j, zcat_f, zcat_d]) (fun z hz => by cases hz) dX12_order_38 (fun r9 => ?_)
        show zS _ 41 _ [va_rf r9] _
        exact zs_aret hE (Or.inl ⟨_, rfl⟩) dX12_order_41
    · refine zs_aload_n hE 0 rfl rfl dX12_order_23 ?_
      refine zs_callV hE (As := []) (encA := encR) (ci := 27) rfl (fun y0 => met_X12_going K y0) q2593 q153 q2590 q2592 (zq qs38) hd_X12_going (by decide) (by decide) rfl (by simp [zcat_rf, zcat_i, zcat_j, zcat_f, zcat_d]) (fun z hz => by cases hz) dX12_order_24 (fun r10 => ?_)
      show zS _ 27 _ [va_rf r10] _
      exact zs_aret hE (Or.inl ⟨_, rfl⟩) dX12_order_27
  · refine zs_aload_n hE 0 rfl rfl dX12_order_9 ?_
    refine zs_callV hE (As := []) (encA := encR) (ci := 27) rfl (fun y0 => met_X12_coming K y0) q2558 q153 q2555 q2557 (zq qs34) hd_X12_coming (by decide) (by decide) rfl (by simp [zcat_rf, zcat_i, zcat_j, zcat_f, zcat_d]) (fun z hz => by cases hz) dX12_order_10 (fun r11 => ?_)
    show zS _ 13 _ [va_rf r11] _
    exact zs_aret hE (Or.inl ⟨_, rfl⟩) dX12_order_13
theorem hd_X12_order : (yX12_order).cls ≠ "java/lang/invoke/MethodHandle" ∧ (yX12_order).cls ≠ "java/lang/invoke/VarHandle" ∧ (parseMethodDescriptor (yX12_order).desc).map (fun d => d.parameters.length) = some 0 := by decide +kernel
theorem met_X12_order (K : ZK) (this : Nat) : zMeth K yX12_order (zws yX12_order cX12_order 1 (Option.some (Jvm.ClassFile.FieldType.object "TokenRing$Order"))) 10 289 [.ref this] encR (s_X12_order K this) :=
  fun l G hl hK => zmet_of hl hK (by decide +kernel) rfl rfl (by simp [zsl_nil, zsl_rf, zsl_r, zsl_i, zsl_j, zsl_f, zsl_d]) (fun x hE => by simp only [zla_nil, zla_rf, zla_r, zla_i, zla_j, zla_f, zla_d, Nat.reduceAdd]; exact sm_X12_order hE this)
theorem sm_X12_read_J62 {x : ZX Unit} {K : ZK} (hE : zE x K cX12_read RX12 "read" 1 11 309 encV none []) (t0 : Int32) (t1 : Int32) (t2 : Nat) : zS x 62 [] [.int t0, .int t1, va_rf (some t2)] (s_X12_read_J62 K t0 t1 t2) := by
  unfold s_X12_read_J62
  refine zs_ior hE dX12_read_62 ?_
  refine zs_putT hE (ci := 27) (k := 3) rfl (by decide) in_X12 (Or.inl q2476) (Or.inl rfl) (Or.inl rfl) (fun h => nomatch h) rfl dX12_read_63 ?_
  exact zs_vret hE dX12_read_66
theorem sm_X12_read_B12 {x : ZX Unit} {K : ZK} (hE : zE x K cX12_read RX12 "read" 1 11 309 encV none []) (x0 : Nat) (self12 : Unit → ZP Unit) (hs12 : ∀ v : Unit, zS x 12 [(0, va_rf (some x0))] [] (self12 v)) : zS x 12 [(0, va_rf (some x0))] [] (s_X12_read_B12 K x0 self12) := by
  unfold s_X12_read_B12
  refine zs_aload_n hE 0 rfl rfl dX12_read_12 ?_
  refine zs_bipush hE (v := (59 : Int32)) (by decide) dX12_read_13 ?_
  refine zs_callV hE (As := [.int (59 : Int32)]) (encA := encI) (ci := 27) rfl (fun y0 => met_X12_takes K y0 (59 : Int32)) q2507 q153 q2504 q2506 (zq qs32) hd_X12_takes (by decide) (by decide) rfl (by simp [zcat_rf, zcat_i, zcat_j, zcat_f, zcat_d]) (fun z hz => by cases hz) dX12_read_15 (fun r4 => ?_)
  show zS _ 18 _ [.int r4] _
  refine zs_if_eq hE 36 (by decide) dX12_read_18 ?_ ?_
  · refine zs_aload_n hE 0 rfl rfl dX12_read_36 ?_
    refine zs_dup hE (zcat_rf _) dX12_read_37 ?_
    refine zs_getI hE (ci := 27) (k := 3) rfl (by decide) in_X12 (Or.inl q2476) (Or.inl rfl) dX12_read_38 (fun v5 => ?_)
    refine zs_aload_n hE 0 rfl rfl dX12_read_41 ?_
    refine zs_getI hE (ci := 27) (k := 2) rfl (by decide) in_X12 (Or.inl q2474) (Or.inl rfl) dX12_read_42 (fun v6 => ?_)
    refine zs_aload_n hE 0 rfl rfl dX12_read_45 ?_
    refine zs_getR hE (ci := 27) (k := 0) rfl (by decide) in_X12 (Or.inl q2471) (Or.inl rfl) dX12_read_46 (fun v7 => ?_)
    refine zs_callFK hE (xx := ⟨"java/lang/CharSequence", "length", "()I"⟩) (As := []) (encA := encI) (ci := 22) rfl (fun y0 => met_J6_length K y0) q1189 q103 q2513 (List.mem_of_getElem? (i := 11) rfl) q1187 q2517 hdx_h14 (by decide) (by decide) rfl (by simp [zcat_rf, zcat_i, zcat_j, zcat_f, zcat_d]) (fun z hz => by cases hz) dX12_read_49 (fun r8 => ?_)
    show zS _ 54 _ [.int r8, .int v6, .int v5, va_rf (some x0)] _
    refine zs_icmp_ge hE 61 (by decide) dX12_read_54 ?_ ?_
    · refine zs_iconst hE (v := (0 : Int32)) (by decide) dX12_read_61 ?_
      refine zs_sub [] rfl ?_
      exact sm_X12_read_J62 hE (0 : Int32) v5 x0
    · refine zs_iconst hE (v := (1 : Int32)) (by decide) dX12_read_57 ?_
      refine zs_goto hE 62 (by decide) dX12_read_58 ?_
      refine zs_sub [] rfl ?_
      exact sm_X12_read_J62 hE (1 : Int32) v5 x0
  · refine zs_aload_n hE 0 rfl rfl dX12_read_21 ?_
    refine zs_getR hE (ci := 27) (k := 1) rfl (by decide) in_X12 (Or.inl q2472) (Or.inl rfl) dX12_read_22 (fun v9 => ?_)
    refine zs_aload_n hE 0 rfl rfl dX12_read_25 ?_
    refine zs_callV hE (As := []) (encA := encR) (ci := 27) rfl (fun y0 => met_X12_order K y0) q2503 q153 q2500 q2502 (zq qs31) hd_X12_order (by decide) (by decide) rfl (by simp [zcat_rf, zcat_i, zcat_j, zcat_f, zcat_d]) (fun z hz => by cases hz) dX12_read_26 (fun r10 => ?_)
    show zS _ 29 _ [va_rf r10, va_rf v9] _
    refine zs_callV hE (As := [va_rf r10]) (encA := encI) (ci := 11) rfl (fun y0 => met_J31_add K y0 r10) q1580 q133 q2687 q1578 (zq q1579) hd_J31_add (by decide) (by decide) rfl (by simp [zcat_rf, zcat_i, zcat_j, zcat_f, zcat_d]) (fun z hz => by cases hz) dX12_read_29 (fun r11 => ?_)
    show zS _ 32 _ [.int r11] _
    refine zs_pop hE (rfl) dX12_read_32 ?_
    refine zs_goto hE 12 (by decide) dX12_read_33 ?_
    exact hs12 ()
theorem sm_X12_read_L12 {x : ZX Unit} {K : ZK} (hE : zE x K cX12_read RX12 "read" 1 11 309 encV none []) (x0 : Nat) (v : Unit) : zS x 12 [(0, va_rf (some x0))] [] (s_X12_read_L12 K x0 v) := by
  unfold s_X12_read_L12
  exact zs_loop (lvf := fun v => [(0, va_rf (some x0))]) (fun self12 hs12 v => sm_X12_read_B12 hE x0 self12 hs12) v
theorem sm_X12_read {x : ZX Unit} {K : ZK} (hE : zE x K cX12_read RX12 "read" 1 11 309 encV none []) (this : Nat) : zS x 0 [(0, va_rf (some this))] [] (s_X12_read K this) := by
  unfold s_X12_read
  refine zs_aload_n hE 0 rfl rfl dX12_read_0 ?_
  refine zs_getR hE (ci := 27) (k := 1) rfl (by decide) in_X12 (Or.inl q2472) (Or.inl rfl) dX12_read_1 (fun v1 => ?_)
  refine zs_aload_n hE 0 rfl rfl dX12_read_4 ?_
  refine zs_callV hE (As := []) (encA := encR) (ci := 27) rfl (fun y0 => met_X12_order K y0) q2503 q153 q2500 q2502 (zq qs31) hd_X12_order (by decide) (by decide) rfl (by simp [zcat_rf, zcat_i, zcat_j, zcat_f, zcat_d]) (fun z hz => by cases hz) dX12_read_5 (fun r2 => ?_)
  show zS _ 8 _ [va_rf r2, va_rf v1] _
  refine zs_callV hE (As := [va_rf r2]) (encA := encI) (ci := 11) rfl (fun y0 => met_J31_add K y0 r2) q1580 q133 q2687 q1578 (zq q1579) hd_J31_add (by decide) (by decide) rfl (by simp [zcat_rf, zcat_i, zcat_j, zcat_f, zcat_d]) (fun z hz => by cases hz) dX12_read_8 (fun r3 => ?_)
  show zS _ 11 _ [.int r3] _
  refine zs_pop hE (rfl) dX12_read_11 ?_
  exact sm_X12_read_L12 hE this ()
theorem hd_X12_read : (yX12_read).cls ≠ "java/lang/invoke/MethodHandle" ∧ (yX12_read).cls ≠ "java/lang/invoke/VarHandle" ∧ (parseMethodDescriptor (yX12_read).desc).map (fun d => d.parameters.length) = some 0 := by decide +kernel
theorem met_X12_read (K : ZK) (this : Nat) : zMeth K yX12_read (zws yX12_read cX12_read 1 none) 11 309 [.ref this] encV (s_X12_read K this) :=
  fun l G hl hK => zmet_of hl hK (by decide +kernel) rfl rfl (by simp [zsl_nil, zsl_rf, zsl_r, zsl_i, zsl_j, zsl_f, zsl_d]) (fun x hE => by simp only [zla_nil, zla_rf, zla_r, zla_i, zla_j, zla_f, zla_d, Nat.reduceAdd]; exact sm_X12_read hE this)
theorem sm_X14_does {x : ZX Unit} {K : ZK} (hE : zE x K cX14_does RX14 "does" 1 12 339 encV none []) (this : Nat) : zS x 0 [(0, va_rf (some this))] [] (s_X14_does K this) := by
  unfold s_X14_does
  refine zs_aload_n hE 0 rfl rfl dX14_does_0 ?_
  refine zs_getR hE (ci := 28) (k := 2) rfl (by decide) in_X14 (Or.inl q2581) (Or.inl rfl) dX14_does_1 (fun v1 => ?_)
  refine zs_getR hE (ci := 27) (k := 4) rfl (by decide) in_X12 (Or.inl q2480) (Or.inl rfl) dX14_does_4 (fun v2 => ?_)
  refine zs_aload_n hE 0 rfl rfl dX14_does_7 ?_
  refine zs_getI hE (ci := 28) (k := 1) rfl (by decide) in_X14 (Or.inl q2580) (Or.inl rfl) dX14_does_8 (fun v3 => ?_)
  refine zs_callV hE (As := [.int v3]) (encA := encI) (ci := 24) rfl (fun y0 => met_X1_join K y0 v3) q1769 q95 q2699 q1767 (zq q1768) hd_X1_join (by decide) (by decide) rfl (by simp [zcat_rf, zcat_i, zcat_j, zcat_f, zcat_d]) (fun z hz => by cases hz) dX14_does_11 (fun r4 => ?_)
  show zS _ 14 _ [.int r4] _
  refine zs_pop hE (rfl) dX14_does_14 ?_
  exact zs_vret hE dX14_does_15
theorem hd_X14_does : (yX14_does).cls ≠ "java/lang/invoke/MethodHandle" ∧ (yX14_does).cls ≠ "java/lang/invoke/VarHandle" ∧ (parseMethodDescriptor (yX14_does).desc).map (fun d => d.parameters.length) = some 0 := by decide +kernel
theorem met_X14_does (K : ZK) (this : Nat) : zMeth K yX14_does (zws yX14_does cX14_does 1 none) 12 339 [.ref this] encV (s_X14_does K this) :=
  fun l G hl hK => zmet_of hl hK (by decide +kernel) rfl rfl (by simp [zsl_nil, zsl_rf, zsl_r, zsl_i, zsl_j, zsl_f, zsl_d]) (fun x hE => by simp only [zla_nil, zla_rf, zla_r, zla_i, zla_j, zla_f, zla_d, Nat.reduceAdd]; exact sm_X14_does hE this)
theorem sm_X15_does {x : ZX Unit} {K : ZK} (hE : zE x K cX15_does RX15 "does" 1 12 339 encV none []) (this : Nat) : zS x 0 [(0, va_rf (some this))] [] (s_X15_does K this) := by
  unfold s_X15_does
  refine zs_aload_n hE 0 rfl rfl dX15_does_0 ?_
  refine zs_getR hE (ci := 29) (k := 2) rfl (by decide) in_X15 (Or.inl q2601) (Or.inl rfl) dX15_does_1 (fun v1 => ?_)
  refine zs_getR hE (ci := 27) (k := 4) rfl (by decide) in_X12 (Or.inl q2481) (Or.inl rfl) dX15_does_4 (fun v2 => ?_)
  refine zs_aload_n hE 0 rfl rfl dX15_does_7 ?_
  refine zs_getI hE (ci := 29) (k := 1) rfl (by decide) in_X15 (Or.inl q2600) (Or.inl rfl) dX15_does_8 (fun v3 => ?_)
  refine zs_callV hE (As := [.int v3]) (encA := encI) (ci := 24) rfl (fun y0 => met_X1_leave K y0 v3) q1888 q95 q2703 q1886 (zq q1887) hd_X1_leave (by decide) (by decide) rfl (by simp [zcat_rf, zcat_i, zcat_j, zcat_f, zcat_d]) (fun z hz => by cases hz) dX15_does_11 (fun r4 => ?_)
  show zS _ 14 _ [.int r4] _
  refine zs_pop hE (rfl) dX15_does_14 ?_
  exact zs_vret hE dX15_does_15
theorem hd_X15_does : (yX15_does).cls ≠ "java/lang/invoke/MethodHandle" ∧ (yX15_does).cls ≠ "java/lang/invoke/VarHandle" ∧ (parseMethodDescriptor (yX15_does).desc).map (fun d => d.parameters.length) = some 0 := by decide +kernel
theorem met_X15_does (K : ZK) (this : Nat) : zMeth K yX15_does (zws yX15_does cX15_does 1 none) 12 339 [.ref this] encV (s_X15_does K this) :=
  fun l G hl hK => zmet_of hl hK (by decide +kernel) rfl rfl (by simp [zsl_nil, zsl_rf, zsl_r, zsl_i, zsl_j, zsl_f, zsl_d]) (fun x hE => by simp only [zla_nil, zla_rf, zla_r, zla_i, zla_j, zla_f, zla_d, Nat.reduceAdd]; exact sm_X15_does hE this)
theorem sm_X16_does {x : ZX Unit} {K : ZK} (hE : zE x K cX16_does RX16 "does" 1 12 344 encV none []) (this : Nat) : zS x 0 [(0, va_rf (some this))] [] (s_X16_does K this) := by
  unfold s_X16_does
  refine zs_aload_n hE 0 rfl rfl dX16_does_0 ?_
  refine zs_getR hE (ci := 30) (k := 4) rfl (by decide) in_X16 (Or.inl q2625) (Or.inl rfl) dX16_does_1 (fun v1 => ?_)
  refine zs_getR hE (ci := 27) (k := 4) rfl (by decide) in_X12 (Or.inl q2484) (Or.inl rfl) dX16_does_4 (fun v2 => ?_)
  refine zs_aload_n hE 0 rfl rfl dX16_does_7 ?_
  refine zs_getI hE (ci := 30) (k := 1) rfl (by decide) in_X16 (Or.inl q2622) (Or.inl rfl) dX16_does_8 (fun v3 => ?_)
  refine zs_aload_n hE 0 rfl rfl dX16_does_11 ?_
  refine zs_getI hE (ci := 30) (k := 2) rfl (by decide) in_X16 (Or.inl q2623) (Or.inl rfl) dX16_does_12 (fun v4 => ?_)
  refine zs_aload_n hE 0 rfl rfl dX16_does_15 ?_
  refine zs_getI hE (ci := 30) (k := 3) rfl (by decide) in_X16 (Or.inl q2624) (Or.inl rfl) dX16_does_16 (fun v5 => ?_)
  refine zs_iconst hE (v := (1 : Int32)) (by decide) dX16_does_19 ?_
  refine zs_callV hE (As := [.int v3, .int v4, .int v5, .int (1 : Int32)]) (encA := encI) (ci := 24) rfl (fun y0 => met_X1_queue K y0 v3 v4 v5 (1 : Int32)) q1923 q95 q2707 q1921 (zq q1922) hd_X1_queue (by decide) (by decide) rfl (by simp [zcat_rf, zcat_i, zcat_j, zcat_f, zcat_d]) (fun z hz => by cases hz) dX16_does_20 (fun r6 => ?_)
  show zS _ 23 _ [.int r6] _
  refine zs_pop hE (rfl) dX16_does_23 ?_
  exact zs_vret hE dX16_does_24
theorem hd_X16_does : (yX16_does).cls ≠ "java/lang/invoke/MethodHandle" ∧ (yX16_does).cls ≠ "java/lang/invoke/VarHandle" ∧ (parseMethodDescriptor (yX16_does).desc).map (fun d => d.parameters.length) = some 0 := by decide +kernel
theorem met_X16_does (K : ZK) (this : Nat) : zMeth K yX16_does (zws yX16_does cX16_does 1 none) 12 344 [.ref this] encV (s_X16_does K this) :=
  fun l G hl hK => zmet_of hl hK (by decide +kernel) rfl rfl (by simp [zsl_nil, zsl_rf, zsl_r, zsl_i, zsl_j, zsl_f, zsl_d]) (fun x hE => by simp only [zla_nil, zla_rf, zla_r, zla_i, zla_j, zla_f, zla_d, Nat.reduceAdd]; exact sm_X16_does hE this)
theorem sm_X17_does {x : ZX Unit} {K : ZK} (hE : zE x K cX17_does RX17 "does" 1 12 340 encV none []) (this : Nat) : zS x 0 [(0, va_rf (some this))] [] (s_X17_does K this) := by
  unfold s_X17_does
  refine zs_aload_n hE 0 rfl rfl dX17_does_0 ?_
  refine zs_getR hE (ci := 31) (k := 2) rfl (by decide) in_X17 (Or.inl q2647) (Or.inl rfl) dX17_does_1 (fun v1 => ?_)
  refine zs_getR hE (ci := 27) (k := 4) rfl (by decide) in_X12 (Or.inl q2482) (Or.inl rfl) dX17_does_4 (fun v2 => ?_)
  refine zs_aload_n hE 0 rfl rfl dX17_does_7 ?_
  refine zs_getI hE (ci := 31) (k := 1) rfl (by decide) in_X17 (Or.inl q2646) (Or.inl rfl) dX17_does_8 (fun v3 => ?_)
  refine zs_callV hE (As := [.int v3]) (encA := encI) (ci := 24) rfl (fun y0 => met_X1_monitor K y0 v3) q2034 q95 q2711 q2032 (zq q2033) hd_X1_monitor (by decide) (by decide) rfl (by simp [zcat_rf, zcat_i, zcat_j, zcat_f, zcat_d]) (fun z hz => by cases hz) dX17_does_11 (fun r4 => ?_)
  show zS _ 14 _ [.int r4] _
  refine zs_pop hE (rfl) dX17_does_14 ?_
  exact zs_vret hE dX17_does_15
theorem hd_X17_does : (yX17_does).cls ≠ "java/lang/invoke/MethodHandle" ∧ (yX17_does).cls ≠ "java/lang/invoke/VarHandle" ∧ (parseMethodDescriptor (yX17_does).desc).map (fun d => d.parameters.length) = some 0 := by decide +kernel
theorem met_X17_does (K : ZK) (this : Nat) : zMeth K yX17_does (zws yX17_does cX17_does 1 none) 12 340 [.ref this] encV (s_X17_does K this) :=
  fun l G hl hK => zmet_of hl hK (by decide +kernel) rfl rfl (by simp [zsl_nil, zsl_rf, zsl_r, zsl_i, zsl_j, zsl_f, zsl_d]) (fun x hE => by simp only [zla_nil, zla_rf, zla_r, zla_i, zla_j, zla_f, zla_d, Nat.reduceAdd]; exact sm_X17_does hE this)
theorem sm_X18_does {x : ZX Unit} {K : ZK} (hE : zE x K cX18_does RX18 "does" 1 12 341 encV none []) (this : Nat) : zS x 0 [(0, va_rf (some this))] [] (s_X18_does K this) := by
  unfold s_X18_does
  refine zs_aload_n hE 0 rfl rfl dX18_does_0 ?_
  refine zs_getR hE (ci := 32) (k := 2) rfl (by decide) in_X18 (Or.inl q2665) (Or.inl rfl) dX18_does_1 (fun v1 => ?_)
  refine zs_getR hE (ci := 27) (k := 4) rfl (by decide) in_X12 (Or.inl q2483) (Or.inl rfl) dX18_does_4 (fun v2 => ?_)
  refine zs_aload_n hE 0 rfl rfl dX18_does_7 ?_
  refine zs_getI hE (ci := 32) (k := 1) rfl (by decide) in_X18 (Or.inl q2664) (Or.inl rfl) dX18_does_8 (fun v3 => ?_)
  refine zs_callV hE (As := [.int v3]) (encA := encI) (ci := 24) rfl (fun y0 => met_X1_tick K y0 v3) q2060 q95 q2715 q2058 (zq q2059) hd_X1_tick (by decide) (by decide) rfl (by simp [zcat_rf, zcat_i, zcat_j, zcat_f, zcat_d]) (fun z hz => by cases hz) dX18_does_11 (fun r4 => ?_)
  show zS _ 14 _ [.int r4] _
  refine zs_pop hE (rfl) dX18_does_14 ?_
  exact zs_vret hE dX18_does_15
theorem hd_X18_does : (yX18_does).cls ≠ "java/lang/invoke/MethodHandle" ∧ (yX18_does).cls ≠ "java/lang/invoke/VarHandle" ∧ (parseMethodDescriptor (yX18_does).desc).map (fun d => d.parameters.length) = some 0 := by decide +kernel
theorem met_X18_does (K : ZK) (this : Nat) : zMeth K yX18_does (zws yX18_does cX18_does 1 none) 12 341 [.ref this] encV (s_X18_does K this) :=
  fun l G hl hK => zmet_of hl hK (by decide +kernel) rfl rfl (by simp [zsl_nil, zsl_rf, zsl_r, zsl_i, zsl_j, zsl_f, zsl_d]) (fun x hE => by simp only [zla_nil, zla_rf, zla_r, zla_i, zla_j, zla_f, zla_d, Nat.reduceAdd]; exact sm_X18_does hE this)
theorem sm_X19_does {x : ZX Unit} {K : ZK} (hE : zE x K cX19_does RX19 "does" 1 12 338 encV none []) (this : Nat) : zS x 0 [(0, va_rf (some this))] [] (s_X19_does K this) := by
  unfold s_X19_does
  refine zs_aload_n hE 0 rfl rfl dX19_does_0 ?_
  refine zs_getR hE (ci := 33) (k := 1) rfl (by decide) in_X19 (Or.inl q2682) (Or.inl rfl) dX19_does_1 (fun v1 => ?_)
  refine zs_getR hE (ci := 27) (k := 4) rfl (by decide) in_X12 (Or.inl q2479) (Or.inl rfl) dX19_does_4 (fun v2 => ?_)
  refine zs_callV hE (As := []) (encA := encI) (ci := 24) rfl (fun y0 => met_X1_lose K y0) q2052 q95 q2719 q2050 (zq q2051) hd_X1_lose (by decide) (by decide) rfl (by simp [zcat_rf, zcat_i, zcat_j, zcat_f, zcat_d]) (fun z hz => by cases hz) dX19_does_7 (fun r3 => ?_)
  show zS _ 10 _ [.int r3] _
  refine zs_pop hE (rfl) dX19_does_10 ?_
  exact zs_vret hE dX19_does_11
theorem hd_X19_does : (yX19_does).cls ≠ "java/lang/invoke/MethodHandle" ∧ (yX19_does).cls ≠ "java/lang/invoke/VarHandle" ∧ (parseMethodDescriptor (yX19_does).desc).map (fun d => d.parameters.length) = some 0 := by decide +kernel
theorem met_X19_does (K : ZK) (this : Nat) : zMeth K yX19_does (zws yX19_does cX19_does 1 none) 12 338 [.ref this] encV (s_X19_does K this) :=
  fun l G hl hK => zmet_of hl hK (by decide +kernel) rfl rfl (by simp [zsl_nil, zsl_rf, zsl_r, zsl_i, zsl_j, zsl_f, zsl_d]) (fun x hE => by simp only [zla_nil, zla_rf, zla_r, zla_i, zla_j, zla_f, zla_d, Nat.reduceAdd]; exact sm_X19_does hE this)
theorem sm_X1_doAll_B26 {x : ZX Int32} {K : ZK} (hE : zE x K cX1_doAll RX1 "doAll" 7 13 364 encI (Option.some Jvm.ClassFile.FieldType.int) (tableOf [((20 : Nat), (59 : Nat), (67 : Nat), (46 : Nat)), ((20 : Nat), (59 : Nat), (95 : Nat), (0 : Nat)), ((67 : Nat), (97 : Nat), (95 : Nat), (0 : Nat))])) (x0 : Nat) (x2 : Option Nat) (x4 : Option Nat) (self26 : Int32 → ZP Int32) (hs26 : ∀ v : Int32, zS x 26 [(0, va_rf (some x0)), (2, va_rf x2), (3, .int v), (4, va_rf x4)] [] (self26 v)) (x3 : Int32) : zS x 26 [(0, va_rf (some x0)), (2, va_rf x2), (3, .int x3), (4, va_rf x4)] [] (s_X1_doAll_B26 K x0 x2 x4 self26 x3) := by
  unfold s_X1_doAll_B26
  refine zs_aload hE 3 rfl dX1_doAll_26 ?_
  refine zs_callFT hE (xx := ⟨"java/util/Iterator", "hasNext", "()Z"⟩) (As := []) (encA := encI) (ci := 5) rfl (fun y0 => met_J23_hasNext K y0) q869 q124 q1389 (List.mem_of_getElem? (i := 3) rfl) q867 q865 hdx_h2 (by decide) (by decide) rfl (by simp [zcat_rf, zcat_i, zcat_j, zcat_f, zcat_d]) zhl_nil dX1_doAll_28 (fun r4 => ?_)
  show zS _ 33 _ [.int r4] _
  refine zs_if_eq hE 59 (by decide) dX1_doAll_33 ?_ ?_
  · refine zs_aload_n hE 0 rfl rfl dX1_doAll_59 ?_
    refine zs_iconst hE (v := (0 : Int32)) (by decide) dX1_doAll_60 ?_
    refine zs_putT hE (ci := 24) (k := 5) rfl (by decide) in_X1 (Or.inl q396) (Or.inl rfl) (Or.inl rfl) (fun h => nomatch h) rfl dX1_doAll_61 ?_
    refine zs_goto hE 105 (by decide) dX1_doAll_64 ?_
    refine zs_aload_n hE 0 rfl rfl dX1_doAll_105 ?_
    refine zs_getR hE (ci := 24) (k := 0) rfl (by decide) in_X1 (Or.inl q391) (Or.inl rfl) dX1_doAll_106 (fun v5 => ?_)
    refine zs_astore hE (i := 4) (by decide) (rfl) (lv' := [(0, va_rf (some x0)), (2, va_rf x2), (3, .int x3)]) rfl dX1_doAll_109 ?_
    refine zs_aload_n hE 1 rfl rfl dX1_doAll_111 ?_
    refine zs_aload_n hE 2 rfl rfl dX1_doAll_112 ?_
    refine zs_putR hE (ci := 24) (k := 0) rfl (by decide) in_X1 (Or.inl q391) (Or.inl rfl) (Or.inl rfl) (fun h => nomatch h) (tyX1_ok 0 (by decide)) (Or.inl ⟨_, rfl⟩) dX1_doAll_113 ?_
    refine zs_aload_n hE 1 rfl rfl dX1_doAll_116 ?_
    refine zs_callV hE (As := []) (encA := encV) (ci := 24) rfl (fun y0 => met_X1_change K y0) q1832 q95 q1829 q1831 (zq qs14) hd_X1_change (by decide) (by decide) rfl (by simp [zcat_rf, zcat_i, zcat_j, zcat_f, zcat_d]) (by decide) dX1_doAll_117 (fun _ => ?_)
    show zS _ 120 _ [] _
    refine zs_aload_n hE 1 rfl rfl dX1_doAll_120 ?_
    refine zs_aload hE 0 rfl dX1_doAll_121 ?_
    refine zs_putR hE (ci := 24) (k := 0) rfl (by decide) in_X1 (Or.inl q391) (Or.inl rfl) (Or.inl rfl) (fun h => nomatch h) (tyX1_ok 0 (by decide)) (Or.inl ⟨_, rfl⟩) dX1_doAll_123 ?_
    refine zs_iload_n hE 3 rfl rfl dX1_doAll_126 ?_
    exact zs_iret hE dX1_doAll_127
  · refine zs_aload hE 3 rfl dX1_doAll_36 ?_
    refine zs_callFT hE (xx := ⟨"java/util/Iterator", "next", "()Ljava/lang/Object;"⟩) (As := []) (encA := encR) (ci := 5) rfl (fun y0 => met_J23_next K y0) q1045 q124 q1391 (List.mem_of_getElem? (i := 4) rfl) q1043 q1041 hdx_h4 (by decide) (by decide) rfl (by simp [zcat_rf, zcat_i, zcat_j, zcat_f, zcat_d]) zhl_nil dX1_doAll_38 (fun r6 => ?_)
    show zS _ 43 _ [va_rf r6] _
    refine zs_cast hE q2692 (zhl_cons (⟨_, rfl, Or.inr (zn q3305 rfl)⟩) (zhl_cons (⟨_, rfl, Or.inr (zn q3306 rfl)⟩) (zhl_cons (⟨_, rfl, Or.inr (zn q3307 rfl)⟩) (zhl_cons (⟨_, rfl, Or.inr (zn q3308 rfl)⟩) (zhl_cons (⟨_, rfl, Or.inr (zn q3309 rfl)⟩) (zhl_cons (⟨_, rfl, Or.inr (zn q3310 rfl)⟩) (zhl_nil))))))) dX1_doAll_43 ?_
    refine zs_astore hE (i := 5) (by decide) (zcat_rf x4) (lv' := [(0, va_rf (some x0)), (2, va_rf x2), (3, .int x3), (4, va_rf x4)]) rfl dX1_doAll_46 ?_
    refine zs_aload hE 0 rfl dX1_doAll_48 ?_
    refine zs_disp (zhl_cons ?_ (zhl_cons ?_ (zhl_cons ?_ (zhl_cons ?_ (zhl_cons ?_ (zhl_cons ?_ (zhl_nil)))))))
    · refine zs_callUT hE (xx := ⟨"TokenRing$Order", "does", "()V"⟩) (owner := "TokenRing$Order") (As := []) (encA := encV) (ci := 28) rfl (fun y0 => met_X14_does K y0) q2698 q156 q2693 q2695 (Or.inl (zn q2694 rfl)) (by decide) q2697 q2696 ⟨(hd_X14_does).1, (hd_X14_does).2.1, (hdx_h16).2.2⟩ (by decide) (by decide) rfl (by simp [zcat_rf, zcat_i, zcat_j, zcat_f, zcat_d]) (zhl_cons (zhnd (tableOf []) (tableOf [(20, 59, 95, 0), (67, 97, 95, 0)]) ⟨20, 59, 67, 46⟩ rfl (fun w hw => by cases hw) (by decide) (by decide) q1800 (zn q1802 rfl) (fun q7 => ?_)) zhl_nil) dX1_doAll_50 (fun _ => ?_)
      · have hE := zE_q q7 0 hE
        have hq := zqin_q (x := x) q7 0
        refine zs_astore hE (i := 4) (by decide) (rfl) (lv' := [(5, va_rf r6), (0, va_rf (some x0)), (2, va_rf x2), (3, .int x3)]) rfl dX1_doAll_67 ?_
        refine zs_aload_n hE 2 rfl rfl dX1_doAll_69 ?_
        refine zs_aload_n hE 3 rfl rfl dX1_doAll_70 ?_
        refine zs_putR hE (ci := 24) (k := 0) rfl (by decide) in_X1 (Or.inl q391) (Or.inl rfl) (Or.inl rfl) (fun h => nomatch h) (tyX1_ok 0 (by decide)) (Or.inl ⟨_, rfl⟩) dX1_doAll_71 ?_
        refine zs_aload_n hE 2 rfl rfl dX1_doAll_74 ?_
        refine zs_new hE (ci := 36) (fs := [.int 0, .int 0, .null]) rfl in_X4 tyX4 tyX4_ok q1781 q1782 q106 (fun j hj => by rcases (show j = 0 ∨ j = 1 ∨ j = 2 by omega) with rfl | rfl | rfl <;> rfl) dX1_doAll_75 (fun q8 => ?_)
        refine zs_dup hE (zcat_rf _) dX1_doAll_78 ?_
        refine zs_bipush hE (v := (10 : Int32)) (by decide) dX1_doAll_79 ?_
        refine zs_iload_n hE 4 rfl rfl dX1_doAll_81 ?_
        refine zs_aload_n hE 2 rfl rfl dX1_doAll_82 ?_
        refine zs_getR hE (ci := 24) (k := 7) rfl (by decide) in_X1 (Or.inl q398) (Or.inl rfl) dX1_doAll_83 (fun v9 => ?_)
        refine zs_callIT hE (As := [.int (10 : Int32), .int x3, va_rf v9]) (encA := encV) (met_X4_init K q8 (10 : Int32) x3 v9) q1785 q106 q1783 q1784 rfl hd_X4_init (by decide) (by decide) rfl (by simp [zcat_rf, zcat_i, zcat_j, zcat_f, zcat_d]) zhl_nil dX1_doAll_86 (fun _ => ?_)
        show zS _ 89 _ [va_rf (some q8), va_rf (some x0)] _
        refine zs_putR hE (ci := 24) (k := 7) rfl (by decide) in_X1 (Or.inl q398) (Or.inl rfl) (Or.inl rfl) (fun h => nomatch h) (tyX1_ok 7 (by decide)) (Or.inl ⟨_, rfl⟩) dX1_doAll_89 ?_
        refine zs_aload hE 0 rfl dX1_doAll_92 ?_
        refine zs_athrowAny hE hq (tableOf [(20, 59, 67, 46), (20, 59, 95, 0)]) ⟨67, 97, 95, 0⟩ (tableOf []) rfl (by decide) (by decide) rfl dX1_doAll_94 ?_
        refine zs_astore hE (i := 6) (by decide) (zcat_rf r6) (lv' := [(4, va_rf (some q7)), (5, va_rf r6), (0, va_rf (some x0)), (2, va_rf x2), (3, .int x3)]) rfl dX1_doAll_95 ?_
        refine zs_aload_n hE 3 rfl rfl dX1_doAll_97 ?_
        refine zs_iconst hE (v := (0 : Int32)) (by decide) dX1_doAll_98 ?_
        refine zs_putT hE (ci := 24) (k := 5) rfl (by decide) in_X1 (Or.inl q396) (Or.inl rfl) (Or.inl rfl) (fun h => nomatch h) rfl dX1_doAll_99 ?_
        refine zs_aload hE 0 rfl dX1_doAll_102 ?_
        exact zs_athrowOut hE (by decide) hq (by decide) dX1_doAll_104
      · show zS _ 53 _ [] _
        refine zs_iinc hE 3 (v := (1 : Int32)) rfl (by decide) (by decide) (zcat_rf x2) (lv' := [(5, va_rf r6), (0, va_rf (some x0)), (2, va_rf x2), (4, va_rf x4)]) rfl dX1_doAll_53 ?_
        refine zs_goto hE 26 (by decide) dX1_doAll_56 ?_
        refine zs_sub [2, 3, 0, 4] rfl ?_
        exact hs26 (x3 + (1 : Int32))
    · refine zs_callUT hE (xx := ⟨"TokenRing$Order", "does", "()V"⟩) (owner := "TokenRing$Order") (As := []) (encA := encV) (ci := 29) rfl (fun y0 => met_X15_does K y0) q2702 q157 q2693 q2695 (Or.inl (zn q2694 rfl)) (by decide) q2701 q2700 ⟨(hd_X15_does).1, (hd_X15_does).2.1, (hdx_h16).2.2⟩ (by decide) (by decide) rfl (by simp [zcat_rf, zcat_i, zcat_j, zcat_f, zcat_d]) (zhl_cons (zhnd (tableOf []) (tableOf [(20, 59, 95, 0), (67, 97, 95, 0)]) ⟨20, 59, 67, 46⟩ rfl (fun w hw => by cases hw) (by decide) (by decide) q1800 (zn q1802 rfl) (fun q10 => ?_)) zhl_nil) dX1_doAll_50 (fun _ => ?_)
      · have hE := zE_q q10 0 hE
        have hq := zqin_q (x := x) q10 0
        refine zs_astore hE (i := 4) (by decide) (rfl) (lv' := [(5, va_rf r6), (0, va_rf (some x0)), (2, va_rf x2), (3, .int x3)]) rfl dX1_doAll_67 ?_
        refine zs_aload_n hE 2 rfl rfl dX1_doAll_69 ?_
        refine zs_aload_n hE 3 rfl rfl dX1_doAll_70 ?_
        refine zs_putR hE (ci := 24) (k := 0) rfl (by decide) in_X1 (Or.inl q391) (Or.inl rfl) (Or.inl rfl) (fun h => nomatch h) (tyX1_ok 0 (by decide)) (Or.inl ⟨_, rfl⟩) dX1_doAll_71 ?_
        refine zs_aload_n hE 2 rfl rfl dX1_doAll_74 ?_
        refine zs_new hE (ci := 36) (fs := [.int 0, .int 0, .null]) rfl in_X4 tyX4 tyX4_ok q1781 q1782 q106 (fun j hj => by rcases (show j = 0 ∨ j = 1 ∨ j = 2 by omega) with rfl | rfl | rfl <;> rfl) dX1_doAll_75 (fun q11 => ?_)
        refine zs_dup hE (zcat_rf _) dX1_doAll_78 ?_
        refine zs_bipush hE (v := (10 : Int32)) (by decide) dX1_doAll_79 ?_
        refine zs_iload_n hE 4 rfl rfl dX1_doAll_81 ?_
        refine zs_aload_n hE 2 rfl rfl dX1_doAll_82 ?_
        refine zs_getR hE (ci := 24) (k := 7) rfl (by decide) in_X1 (Or.inl q398) (Or.inl rfl) dX1_doAll_83 (fun v12 => ?_)
        refine zs_callIT hE (As := [.int (10 : Int32), .int x3, va_rf v12]) (encA := encV) (met_X4_init K q11 (10 : Int32) x3 v12) q1785 q106 q1783 q1784 rfl hd_X4_init (by decide) (by decide) rfl (by simp [zcat_rf, zcat_i, zcat_j, zcat_f, zcat_d]) zhl_nil dX1_doAll_86 (fun _ => ?_)
        show zS _ 89 _ [va_rf (some q11), va_rf (some x0)] _
        refine zs_putR hE (ci := 24) (k := 7) rfl (by decide) in_X1 (Or.inl q398) (Or.inl rfl) (Or.inl rfl) (fun h => nomatch h) (tyX1_ok 7 (by decide)) (Or.inl ⟨_, rfl⟩) dX1_doAll_89 ?_
        refine zs_aload hE 0 rfl dX1_doAll_92 ?_
        refine zs_athrowAny hE hq (tableOf [(20, 59, 67, 46), (20, 59, 95, 0)]) ⟨67, 97, 95, 0⟩ (tableOf []) rfl (by decide) (by decide) rfl dX1_doAll_94 ?_
        refine zs_astore hE (i := 6) (by decide) (zcat_rf r6) (lv' := [(4, va_rf (some q10)), (5, va_rf r6), (0, va_rf (some x0)), (2, va_rf x2), (3, .int x3)]) rfl dX1_doAll_95 ?_
        refine zs_aload_n hE 3 rfl rfl dX1_doAll_97 ?_
        refine zs_iconst hE (v := (0 : Int32)) (by decide) dX1_doAll_98 ?_
        refine zs_putT hE (ci := 24) (k := 5) rfl (by decide) in_X1 (Or.inl q396) (Or.inl rfl) (Or.inl rfl) (fun h => nomatch h) rfl dX1_doAll_99 ?_
        refine zs_aload hE 0 rfl dX1_doAll_102 ?_
        exact zs_athrowOut hE (by decide) hq (by decide) dX1_doAll_104
      · show zS _ 53 _ [] _
        refine zs_iinc hE 3 (v := (1 : Int32)) rfl (by decide) (by decide) (zcat_rf x2) (lv' := [(5, va_rf r6), (0, va_rf (some x0)), (2, va_rf x2), (4, va_rf x4)]) rfl dX1_doAll_53 ?_
        refine zs_goto hE 26 (by decide) dX1_doAll_56 ?_
        refine zs_sub [2, 3, 0, 4] rfl ?_
        exact hs26 (x3 + (1 : Int32))
    · refine zs_callUT hE (xx := ⟨"TokenRing$Order", "does", "()V"⟩) (owner := "TokenRing$Order") (As := []) (encA := encV) (ci := 30) rfl (fun y0 => met_X16_does K y0) q2706 q158 q2693 q2695 (Or.inl (zn q2694 rfl)) (by decide) q2705 q2704 ⟨(hd_X16_does).1, (hd_X16_does).2.1, (hdx_h16).2.2⟩ (by decide) (by decide) rfl (by simp [zcat_rf, zcat_i, zcat_j, zcat_f, zcat_d]) (zhl_cons (zhnd (tableOf []) (tableOf [(20, 59, 95, 0), (67, 97, 95, 0)]) ⟨20, 59, 67, 46⟩ rfl (fun w hw => by cases hw) (by decide) (by decide) q1800 (zn q1802 rfl) (fun q13 => ?_)) zhl_nil) dX1_doAll_50 (fun _ => ?_)
      · have hE := zE_q q13 0 hE
        have hq := zqin_q (x := x) q13 0
        refine zs_astore hE (i := 4) (by decide) (rfl) (lv' := [(5, va_rf r6), (0, va_rf (some x0)), (2, va_rf x2), (3, .int x3)]) rfl dX1_doAll_67 ?_
        refine zs_aload_n hE 2 rfl rfl dX1_doAll_69 ?_
        refine zs_aload_n hE 3 rfl rfl dX1_doAll_70 ?_
        refine zs_putR hE (ci := 24) (k := 0) rfl (by decide) in_X1 (Or.inl q391) (Or.inl rfl) (Or.inl rfl) (fun h => nomatch h) (tyX1_ok 0 (by decide)) (Or.inl ⟨_, rfl⟩) dX1_doAll_71 ?_
        refine zs_aload_n hE 2 rfl rfl dX1_doAll_74 ?_
        refine zs_new hE (ci := 36) (fs := [.int 0, .int 0, .null]) rfl in_X4 tyX4 tyX4_ok q1781 q1782 q106 (fun j hj => by rcases (show j = 0 ∨ j = 1 ∨ j = 2 by omega) with rfl | rfl | rfl <;> rfl) dX1_doAll_75 (fun q14 => ?_)
        refine zs_dup hE (zcat_rf _) dX1_doAll_78 ?_
        refine zs_bipush hE (v := (10 : Int32)) (by decide) dX1_doAll_79 ?_
        refine zs_iload_n hE 4 rfl rfl dX1_doAll_81 ?_
        refine zs_aload_n hE 2 rfl rfl dX1_doAll_82 ?_
        refine zs_getR hE (ci := 24) (k := 7) rfl (by decide) in_X1 (Or.inl q398) (Or.inl rfl) dX1_doAll_83 (fun v15 => ?_)
        refine zs_callIT hE (As := [.int (10 : Int32), .int x3, va_rf v15]) (encA := encV) (met_X4_init K q14 (10 : Int32) x3 v15) q1785 q106 q1783 q1784 rfl hd_X4_init (by decide) (by decide) rfl (by simp [zcat_rf, zcat_i, zcat_j, zcat_f, zcat_d]) zhl_nil dX1_doAll_86 (fun _ => ?_)
        show zS _ 89 _ [va_rf (some q14), va_rf (some x0)] _
        refine zs_putR hE (ci := 24) (k := 7) rfl (by decide) in_X1 (Or.inl q398) (Or.inl rfl) (Or.inl rfl) (fun h => nomatch h) (tyX1_ok 7 (by decide)) (Or.inl ⟨_, rfl⟩) dX1_doAll_89 ?_
        refine zs_aload hE 0 rfl dX1_doAll_92 ?_
        refine zs_athrowAny hE hq (tableOf [(20, 59, 67, 46), (20, 59, 95, 0)]) ⟨67, 97, 95, 0⟩ (tableOf []) rfl (by decide) (by decide) rfl dX1_doAll_94 ?_
        refine zs_astore hE (i := 6) (by decide) (zcat_rf r6) (lv' := [(4, va_rf (some q13)), (5, va_rf r6), (0, va_rf (some x0)), (2, va_rf x2), (3, .int x3)]) rfl dX1_doAll_95 ?_
        refine zs_aload_n hE 3 rfl rfl dX1_doAll_97 ?_
        refine zs_iconst hE (v := (0 : Int32)) (by decide) dX1_doAll_98 ?_
        refine zs_putT hE (ci := 24) (k := 5) rfl (by decide) in_X1 (Or.inl q396) (Or.inl rfl) (Or.inl rfl) (fun h => nomatch h) rfl dX1_doAll_99 ?_
        refine zs_aload hE 0 rfl dX1_doAll_102 ?_
        exact zs_athrowOut hE (by decide) hq (by decide) dX1_doAll_104
      · show zS _ 53 _ [] _
        refine zs_iinc hE 3 (v := (1 : Int32)) rfl (by decide) (by decide) (zcat_rf x2) (lv' := [(5, va_rf r6), (0, va_rf (some x0)), (2, va_rf x2), (4, va_rf x4)]) rfl dX1_doAll_53 ?_
        refine zs_goto hE 26 (by decide) dX1_doAll_56 ?_
        refine zs_sub [2, 3, 0, 4] rfl ?_
        exact hs26 (x3 + (1 : Int32))
    · refine zs_callUT hE (xx := ⟨"TokenRing$Order", "does", "()V"⟩) (owner := "TokenRing$Order") (As := []) (encA := encV) (ci := 31) rfl (fun y0 => met_X17_does K y0) q2710 q159 q2693 q2695 (Or.inl (zn q2694 rfl)) (by decide) q2709 q2708 ⟨(hd_X17_does).1, (hd_X17_does).2.1, (hdx_h16).2.2⟩ (by decide) (by decide) rfl (by simp [zcat_rf, zcat_i, zcat_j, zcat_f, zcat_d]) (zhl_cons (zhnd (tableOf []) (tableOf [(20, 59, 95, 0), (67, 97, 95, 0)]) ⟨20, 59, 67, 46⟩ rfl (fun w hw => by cases hw) (by decide) (by decide) q1800 (zn q1802 rfl) (fun q16 => ?_)) zhl_nil) dX1_doAll_50 (fun _ => ?_)
      · have hE := zE_q q16 0 hE
        have hq := zqin_q (x := x) q16 0
        refine zs_astore hE (i := 4) (by decide) (rfl) (lv' := [(5, va_rf r6), (0, va_rf (some x0)), (2, va_rf x2), (3, .int x3)]) rfl dX1_doAll_67 ?_
        refine zs_aload_n hE 2 rfl rfl dX1_doAll_69 ?_
        refine zs_aload_n hE 3 rfl rfl dX1_doAll_70 ?_
        refine zs_putR hE (ci := 24) (k := 0) rfl (by decide) in_X1 (Or.inl q391) (Or.inl rfl) (Or.inl rfl) (fun h => nomatch h) (tyX1_ok 0 (by decide)) (Or.inl ⟨_, rfl⟩) dX1_doAll_71 ?_
        refine zs_aload_n hE 2 rfl rfl dX1_doAll_74 ?_
        refine zs_new hE (ci := 36) (fs := [.int 0, .int 0, .null]) rfl in_X4 tyX4 tyX4_ok q1781 q1782 q106 (fun j hj => by rcases (show j = 0 ∨ j = 1 ∨ j = 2 by omega) with rfl | rfl | rfl <;> rfl) dX1_doAll_75 (fun q17 => ?_)
        refine zs_dup hE (zcat_rf _) dX1_doAll_78 ?_
        refine zs_bipush hE (v := (10 : Int32)) (by decide) dX1_doAll_79 ?_
        refine zs_iload_n hE 4 rfl rfl dX1_doAll_81 ?_
        refine zs_aload_n hE 2 rfl rfl dX1_doAll_82 ?_
        refine zs_getR hE (ci := 24) (k := 7) rfl (by decide) in_X1 (Or.inl q398) (Or.inl rfl) dX1_doAll_83 (fun v18 => ?_)
        refine zs_callIT hE (As := [.int (10 : Int32), .int x3, va_rf v18]) (encA := encV) (met_X4_init K q17 (10 : Int32) x3 v18) q1785 q106 q1783 q1784 rfl hd_X4_init (by decide) (by decide) rfl (by simp [zcat_rf, zcat_i, zcat_j, zcat_f, zcat_d]) zhl_nil dX1_doAll_86 (fun _ => ?_)
        show zS _ 89 _ [va_rf (some q17), va_rf (some x0)] _
        refine zs_putR hE (ci := 24) (k := 7) rfl (by decide) in_X1 (Or.inl q398) (Or.inl rfl) (Or.inl rfl) (fun h => nomatch h) (tyX1_ok 7 (by decide)) (Or.inl ⟨_, rfl⟩) dX1_doAll_89 ?_
        refine zs_aload hE 0 rfl dX1_doAll_92 ?_
        refine zs_athrowAny hE hq (tableOf [(20, 59, 67, 46), (20, 59, 95, 0)]) ⟨67, 97, 95, 0⟩ (tableOf []) rfl (by decide) (by decide) rfl dX1_doAll_94 ?_
        refine zs_astore hE (i := 6) (by decide) (zcat_rf r6) (lv' := [(4, va_rf (some q16)), (5, va_rf r6), (0, va_rf (some x0)), (2, va_rf x2), (3, .int x3)]) rfl dX1_doAll_95 ?_
        refine zs_aload_n hE 3 rfl rfl dX1_doAll_97 ?_
        refine zs_iconst hE (v := (0 : Int32)) (by decide) dX1_doAll_98 ?_
        refine zs_putT hE (ci := 24) (k := 5) rfl (by decide) in_X1 (Or.inl q396) (Or.inl rfl) (Or.inl rfl) (fun h => nomatch h) rfl dX1_doAll_99 ?_
        refine zs_aload hE 0 rfl dX1_doAll_102 ?_
        exact zs_athrowOut hE (by decide) hq (by decide) dX1_doAll_104
      · show zS _ 53 _ [] _
        refine zs_iinc hE 3 (v := (1 : Int32)) rfl (by decide) (by decide) (zcat_rf x2) (lv' := [(5, va_rf r6), (0, va_rf (some x0)), (2, va_rf x2), (4, va_rf x4)]) rfl dX1_doAll_53 ?_
        refine zs_goto hE 26 (by decide) dX1_doAll_56 ?_
        refine zs_sub [2, 3, 0, 4] rfl ?_
        exact hs26 (x3 + (1 : Int32))
    · refine zs_callUT hE (xx := ⟨"TokenRing$Order", "does", "()V"⟩) (owner := "TokenRing$Order") (As := []) (encA := encV) (ci := 32) rfl (fun y0 => met_X18_does K y0) q2714 q160 q2693 q2695 (Or.inl (zn q2694 rfl)) (by decide) q2713 q2712 ⟨(hd_X18_does).1, (hd_X18_does).2.1, (hdx_h16).2.2⟩ (by decide) (by decide) rfl (by simp [zcat_rf, zcat_i, zcat_j, zcat_f, zcat_d]) (zhl_cons (zhnd (tableOf []) (tableOf [(20, 59, 95, 0), (67, 97, 95, 0)]) ⟨20, 59, 67, 46⟩ rfl (fun w hw => by cases hw) (by decide) (by decide) q1800 (zn q1802 rfl) (fun q19 => ?_)) zhl_nil) dX1_doAll_50 (fun _ => ?_)
      · have hE := zE_q q19 0 hE
        have hq := zqin_q (x := x) q19 0
        refine zs_astore hE (i := 4) (by decide) (rfl) (lv' := [(5, va_rf r6), (0, va_rf (some x0)), (2, va_rf x2), (3, .int x3)]) rfl dX1_doAll_67 ?_
        refine zs_aload_n hE 2 rfl rfl dX1_doAll_69 ?_
        refine zs_aload_n hE 3 rfl rfl dX1_doAll_70 ?_
        refine zs_putR hE (ci := 24) (k := 0) rfl (by decide) in_X1 (Or.inl q391) (Or.inl rfl) (Or.inl rfl) (fun h => nomatch h) (tyX1_ok 0 (by decide)) (Or.inl ⟨_, rfl⟩) dX1_doAll_71 ?_
        refine zs_aload_n hE 2 rfl rfl dX1_doAll_74 ?_
        refine zs_new hE (ci := 36) (fs := [.int 0, .int 0, .null]) rfl in_X4 tyX4 tyX4_ok q1781 q1782 q106 (fun j hj => by rcases (show j = 0 ∨ j = 1 ∨ j = 2 by omega) with rfl | rfl | rfl <;> rfl) dX1_doAll_75 (fun q20 => ?_)
        refine zs_dup hE (zcat_rf _) dX1_doAll_78 ?_
        refine zs_bipush hE (v := (10 : Int32)) (by decide) dX1_doAll_79 ?_
        refine zs_iload_n hE 4 rfl rfl dX1_doAll_81 ?_
        refine zs_aload_n hE 2 rfl rfl dX1_doAll_82 ?_
        refine zs_getR hE (ci := 24) (k := 7) rfl (by decide) in_X1 (Or.inl q398) (Or.inl rfl) dX1_doAll_83 (fun v21 => ?_)
        refine zs_callIT hE (As := [.int (10 : Int32), .int x3, va_rf v21]) (encA := encV) (met_X4_init K q20 (10 : Int32) x3 v21) q1785 q106 q1783 q1784 rfl hd_X4_init (by decide) (by decide) rfl (by simp [zcat_rf, zcat_i, zcat_j, zcat_f, zcat_d]) zhl_nil dX1_doAll_86 (fun _ => ?_)
        show zS _ 89 _ [va_rf (some q20), va_rf (some x0)] _
        refine zs_putR hE (ci := 24) (k := 7) rfl (by decide) in_X1 (Or.inl q398) (Or.inl rfl) (Or.inl rfl) (fun h => nomatch h) (tyX1_ok 7 (by decide)) (Or.inl ⟨_, rfl⟩) dX1_doAll_89 ?_
        refine zs_aload hE 0 rfl dX1_doAll_92 ?_
        refine zs_athrowAny hE hq (tableOf [(20, 59, 67, 46), (20, 59, 95, 0)]) ⟨67, 97, 95, 0⟩ (tableOf []) rfl (by decide) (by decide) rfl dX1_doAll_94 ?_
        refine zs_astore hE (i := 6) (by decide) (zcat_rf r6) (lv' := [(4, va_rf (some q19)), (5, va_rf r6), (0, va_rf (some x0)), (2, va_rf x2), (3, .int x3)]) rfl dX1_doAll_95 ?_
        refine zs_aload_n hE 3 rfl rfl dX1_doAll_97 ?_
        refine zs_iconst hE (v := (0 : Int32)) (by decide) dX1_doAll_98 ?_
        refine zs_putT hE (ci := 24) (k := 5) rfl (by decide) in_X1 (Or.inl q396) (Or.inl rfl) (Or.inl rfl) (fun h => nomatch h) rfl dX1_doAll_99 ?_
        refine zs_aload hE 0 rfl dX1_doAll_102 ?_
        exact zs_athrowOut hE (by decide) hq (by decide) dX1_doAll_104
      · show zS _ 53 _ [] _
        refine zs_iinc hE 3 (v := (1 : Int32)) rfl (by decide) (by decide) (zcat_rf x2) (lv' := [(5, va_rf r6), (0, va_rf (some x0)), (2, va_rf x2), (4, va_rf x4)]) rfl dX1_doAll_53 ?_
        refine zs_goto hE 26 (by decide) dX1_doAll_56 ?_
        refine zs_sub [2, 3, 0, 4] rfl ?_
        exact hs26 (x3 + (1 : Int32))
    · refine zs_callUT hE (xx := ⟨"TokenRing$Order", "does", "()V"⟩) (owner := "TokenRing$Order") (As := []) (encA := encV) (ci := 33) rfl (fun y0 => met_X19_does K y0) q2718 q161 q2693 q2695 (Or.inl (zn q2694 rfl)) (by decide) q2717 q2716 ⟨(hd_X19_does).1, (hd_X19_does).2.1, (hdx_h16).2.2⟩ (by decide) (by decide) rfl (by simp [zcat_rf, zcat_i, zcat_j, zcat_f, zcat_d]) (zhl_cons (zhnd (tableOf []) (tableOf [(20, 59, 95, 0), (67, 97, 95, 0)]) ⟨20, 59, 67, 46⟩ rfl (fun w hw => by cases hw) (by decide) (by decide) q1800 (zn q1802 rfl) (fun q22 => ?_)) zhl_nil) dX1_doAll_50 (fun _ => ?_)
      · have hE := zE_q q22 0 hE
        have hq := zqin_q (x := x) q22 0
        refine zs_astore hE (i := 4) (by decide) (rfl) (lv' := [(5, va_rf r6), (0, va_rf (some x0)), (2, va_rf x2), (3, .int x3)]) rfl dX1_doAll_67 ?_
        refine zs_aload_n hE 2 rfl rfl dX1_doAll_69 ?_
        refine zs_aload_n hE 3 rfl rfl dX1_doAll_70 ?_
        refine zs_putR hE (ci := 24) (k := 0) rfl (by decide) in_X1 (Or.inl q391) (Or.inl rfl) (Or.inl rfl) (fun h => nomatch h) (tyX1_ok 0 (by decide)) (Or.inl ⟨_, rfl⟩) dX1_doAll_71 ?_
        refine zs_aload_n hE 2 rfl rfl dX1_doAll_74 ?_
        refine zs_new hE (ci := 36) (fs := [.int 0, .int 0, .null]) rfl in_X4 tyX4 tyX4_ok q1781 q1782 q106 (fun j hj => by rcases (show j = 0 ∨ j = 1 ∨ j = 2 by omega) with rfl | rfl | rfl <;> rfl) dX1_doAll_75 (fun q23 => ?_)
        refine zs_dup hE (zcat_rf _) dX1_doAll_78 ?_
        refine zs_bipush hE (v := (10 : Int32)) (by decide) dX1_doAll_79 ?_
        refine zs_iload_n hE 4 rfl rfl dX1_doAll_81 ?_
        refine zs_aload_n hE 2 rfl rfl dX1_doAll_82 ?_
        refine zs_getR hE (ci := 24) (k := 7) rfl (by decide) in_X1 (Or.inl q398) (Or.inl rfl) dX1_doAll_83 (fun v24 => ?_)
        refine zs_callIT hE (As := [.int (10 : Int32), .int x3, va_rf v24]) (encA := encV) (met_X4_init K q23 (10 : Int32) x3 v24) q1785 q106 q1783 q1784 rfl hd_X4_init (by decide) (by decide) rfl (by simp [zcat_rf, zcat_i, zcat_j, zcat_f, zcat_d]) zhl_nil dX1_doAll_86 (fun _ => ?_)
        show zS _ 89 _ [va_rf (some q23), va_rf (some x0)] _
        refine zs_putR hE (ci := 24) (k := 7) rfl (by decide) in_X1 (Or.inl q398) (Or.inl rfl) (Or.inl rfl) (fun h => nomatch h) (tyX1_ok 7 (by decide)) (Or.inl ⟨_, rfl⟩) dX1_doAll_89 ?_
        refine zs_aload hE 0 rfl dX1_doAll_92 ?_
        refine zs_athrowAny hE hq (tableOf [(20, 59, 67, 46), (20, 59, 95, 0)]) ⟨67, 97, 95, 0⟩ (tableOf []) rfl (by decide) (by decide) rfl dX1_doAll_94 ?_
        refine zs_astore hE (i := 6) (by decide) (zcat_rf r6) (lv' := [(4, va_rf (some q22)), (5, va_rf r6), (0, va_rf (some x0)), (2, va_rf x2), (3, .int x3)]) rfl dX1_doAll_95 ?_
        refine zs_aload_n hE 3 rfl rfl dX1_doAll_97 ?_
        refine zs_iconst hE (v := (0 : Int32)) (by decide) dX1_doAll_98 ?_
        refine zs_putT hE (ci := 24) (k := 5) rfl (by decide) in_X1 (Or.inl q396) (Or.inl rfl) (Or.inl rfl) (fun h => nomatch h) rfl dX1_doAll_99 ?_
        refine zs_aload hE 0 rfl dX1_doAll_102 ?_
        exact zs_athrowOut hE (by decide) hq (by decide) dX1_doAll_104
      · show zS _ 53 _ [] _
        refine zs_iinc hE 3 (v := (1 : Int32)) rfl (by decide) (by decide) (zcat_rf x2) (lv' := [(5, va_rf r6), (0, va_rf (some x0)), (2, va_rf x2), (4, va_rf x4)]) rfl dX1_doAll_53 ?_
        refine zs_goto hE 26 (by decide) dX1_doAll_56 ?_
        refine zs_sub [2, 3, 0, 4] rfl ?_
        exact hs26 (x3 + (1 : Int32))
theorem sm_X1_doAll_L26 {x : ZX Int32} {K : ZK} (hE : zE x K cX1_doAll RX1 "doAll" 7 13 364 encI (Option.some Jvm.ClassFile.FieldType.int) (tableOf [((20 : Nat), (59 : Nat), (67 : Nat), (46 : Nat)), ((20 : Nat), (59 : Nat), (95 : Nat), (0 : Nat)), ((67 : Nat), (97 : Nat), (95 : Nat), (0 : Nat))])) (x0 : Nat) (x2 : Option Nat) (x4 : Option Nat) (v : Int32) : zS x 26 [(0, va_rf (some x0)), (2, va_rf x2), (3, .int v), (4, va_rf x4)] [] (s_X1_doAll_L26 K x0 x2 x4 v) := by
  unfold s_X1_doAll_L26
  exact zs_loop (lvf := fun v => [(0, va_rf (some x0)), (2, va_rf x2), (3, .int v), (4, va_rf x4)]) (fun self26 hs26 v => sm_X1_doAll_B26 hE x0 x2 x4 self26 hs26 v) v
theorem sm_X1_doAll {x : ZX Int32} {K : ZK} (hE : zE x K cX1_doAll RX1 "doAll" 7 13 364 encI (Option.some Jvm.ClassFile.FieldType.int) (tableOf [((20 : Nat), (59 : Nat), (67 : Nat), (46 : Nat)), ((20 : Nat), (59 : Nat), (95 : Nat), (0 : Nat)), ((67 : Nat), (97 : Nat), (95 : Nat), (0 : Nat))])) (this : Nat) (a1 : Option Nat) : zS x 0 [(0, va_rf (some this)), (1, va_rf a1)] [] (s_X1_doAll K this a1) := by
  unfold s_X1_doAll
  refine zs_aload_n hE 0 rfl rfl dX1_doAll_0 ?_
  refine zs_getR hE (ci := 24) (k := 0) rfl (by decide) in_X1 (Or.inl q391) (Or.inl rfl) dX1_doAll_1 (fun v1 => ?_)
  refine zs_astore_n hE (i := 2) (q := 2) rfl (by decide) (zcat_rf a1) (lv' := [(0, va_rf (some this)), (1, va_rf a1)]) rfl dX1_doAll_4 ?_
  refine zs_aload_n hE 1 rfl rfl dX1_doAll_5 ?_
  refine zs_aload_n hE 0 rfl rfl dX1_doAll_6 ?_
  refine zs_callV hE (As := []) (encA := encR) (ci := 34) rfl (fun y0 => met_X2_copy K y0) q1507 q96 q1504 q1505 (zq q1506) hd_X2_copy (by decide) (by decide) rfl (by simp [zcat_rf, zcat_i, zcat_j, zcat_f, zcat_d]) (by decide) dX1_doAll_7 (fun r2 => ?_)
  show zS _ 10 _ [va_rf r2, va_rf (some this)] _
  refine zs_putR hE (ci := 24) (k := 0) rfl (by decide) in_X1 (Or.inl q391) (Or.inl rfl) (Or.inl rfl) (fun h => nomatch h) (tyX1_ok 0 (by decide)) (Or.inl ⟨_, rfl⟩) dX1_doAll_10 ?_
  refine zs_aload_n hE 1 rfl rfl dX1_doAll_13 ?_
  refine zs_iconst hE (v := (1 : Int32)) (by decide) dX1_doAll_14 ?_
  refine zs_putT hE (ci := 24) (k := 5) rfl (by decide) in_X1 (Or.inl q396) (Or.inl rfl) (Or.inl rfl) (fun h => nomatch h) rfl dX1_doAll_15 ?_
  refine zs_iconst hE (v := (0 : Int32)) (by decide) dX1_doAll_18 ?_
  refine zs_istore_n hE (i := 3) (q := 3) rfl (by decide) (zcat_rf v1) (lv' := [(2, va_rf v1), (0, va_rf (some this)), (1, va_rf a1)]) rfl dX1_doAll_19 ?_
  refine zs_aload_n hE 3 rfl rfl dX1_doAll_20 ?_
  refine zs_callVT hE (As := []) (encA := encR) (ci := 11) rfl (fun y0 => met_J31_iterator K y0) q479 q133 q2199 q477 (zq q3299) hd_J31_iterator (by decide) (by decide) rfl (by simp [zcat_rf, zcat_i, zcat_j, zcat_f, zcat_d]) zhl_nil dX1_doAll_21 (fun r3 => ?_)
  show zS _ 24 _ [va_rf r3] _
  refine zs_astore hE (i := 4) (by decide) (rfl) (lv' := [(3, .int (0 : Int32)), (2, va_rf v1), (0, va_rf (some this)), (1, va_rf a1)]) rfl dX1_doAll_24 ?_
  refine zs_sub [3, 2, 1, 0] rfl ?_
  exact sm_X1_doAll_L26 hE this v1 r3 (0 : Int32)
theorem hd_X1_doAll : (yX1_doAll).cls ≠ "java/lang/invoke/MethodHandle" ∧ (yX1_doAll).cls ≠ "java/lang/invoke/VarHandle" ∧ (parseMethodDescriptor (yX1_doAll).desc).map (fun d => d.parameters.length) = some 1 := by decide +kernel
theorem met_X1_doAll (K : ZK) (this : Nat) (a1 : Option Nat) : zMeth K yX1_doAll (zwsW yX1_doAll cX1_doAll 7 (Option.some Jvm.ClassFile.FieldType.int) [((20 : Nat), (59 : Nat), (67 : Nat), (46 : Nat)), ((20 : Nat), (59 : Nat), (95 : Nat), (0 : Nat)), ((67 : Nat), (97 : Nat), (95 : Nat), (0 : Nat))]) 13 364 [.ref this, va_rf a1] encI (s_X1_doAll K this a1) :=
  fun l G hl hK => zmet_ofH hl hK (by decide +kernel) rfl rfl (by simp [zsl_nil, zsl_rf, zsl_r, zsl_i, zsl_j, zsl_f, zsl_d]) (fun x hE => by simp only [zla_nil, zla_rf, zla_r, zla_i, zla_j, zla_f, zla_d, Nat.reduceAdd]; exact sm_X1_doAll hE this a1)
theorem sm_X1_run_J59 {x : ZX Int32} {K : ZK} (hE : zE x K cX1_run RX1 "run" 2 14 390 encI (Option.some Jvm.ClassFile.FieldType.int) []) (x0 : Nat) (x1 : Nat) (t0 : Int32) : zS x 59 [(0, va_rf (some x0)), (1, va_rf (some x1))] [.int t0] (s_X1_run_J59 K x0 x1 t0) := by
  unfold s_X1_run_J59
  refine zs_callS hE (As := [.int t0]) (encA := encV) (met_X1_check K t0) q2140 q95 q2138 q2139 hd_X1_check (by decide) (by decide) rfl (by simp [zcat_rf, zcat_i, zcat_j, zcat_f, zcat_d]) (fun z hz => by cases hz) dX1_run_59 (fun _ => ?_)
  show zS _ 62 _ [] _
  refine zs_aload_n hE 0 rfl rfl dX1_run_62 ?_
  refine zs_aload_n hE 1 rfl rfl dX1_run_63 ?_
  refine zs_getR hE (ci := 27) (k := 1) rfl (by decide) in_X12 (Or.inr ⟨_, zn q2473 rfl⟩) (Or.inl rfl) dX1_run_64 (fun v7 => ?_)
  refine zs_callVX hE (As := [va_rf v7]) (encA := encI) (ci := 24) rfl (fun y0 => met_X1_doAll K y0 v7) q2691 q95 q2688 q2690 (zq qs44) hd_X1_doAll (by decide) (by decide) rfl (by simp [zcat_rf, zcat_i, zcat_j, zcat_f, zcat_d]) (fun z hz => by cases hz) dX1_run_67 (fun r8 => ?_)
  show zS _ 70 _ [.int r8] _
  exact zs_iret hE dX1_run_70
theorem sm_X1_run_J44 {x : ZX Int32} {K : ZK} (hE : zE x K cX1_run RX1 "run" 2 14 390 encI (Option.some Jvm.ClassFile.FieldType.int) []) (x0 : Nat) (x1 : Nat) (t0 : Int32) (t1 : Nat) : zS x 44 [(0, va_rf (some x0)), (1, va_rf (some x1))] [.int t0, va_rf (some t1)] (s_X1_run_J44 K x0 x1 t0 t1) := by
  unfold s_X1_run_J44
  refine zs_putI hE (ci := 24) (k := 6) rfl (by decide) in_X1 (Or.inl q397) (Or.inl rfl) (Or.inl rfl) (fun h => nomatch h) rfl dX1_run_44 ?_
  refine zs_aload_n hE 1 rfl rfl dX1_run_47 ?_
  refine zs_getI hE (ci := 27) (k := 3) rfl (by decide) in_X12 (Or.inr ⟨_, zn q2477 rfl⟩) (Or.inl rfl) dX1_run_48 (fun v6 => ?_)
  refine zs_if_ne hE 58 (by decide) dX1_run_51 ?_ ?_
  · refine zs_iconst hE (v := (1 : Int32)) (by decide) dX1_run_54 ?_
    refine zs_goto hE 59 (by decide) dX1_run_55 ?_
    exact sm_X1_run_J59 hE x0 x1 (1 : Int32)
  · refine zs_iconst hE (v := (0 : Int32)) (by decide) dX1_run_58 ?_
    exact sm_X1_run_J59 hE x0 x1 (0 : Int32)
theorem sm_X1_run {x : ZX Int32} {K : ZK} (hE : zE x K cX1_run RX1 "run" 2 14 390 encI (Option.some Jvm.ClassFile.FieldType.int) []) (this : Nat) : zS x 0 [(0, va_rf (some this))] [] (s_X1_run K this) := by
  unfold s_X1_run
  refine zs_new hE (ci := 27) (fs := [.null, .null, .int 0, .int 0, .null]) rfl in_X12 tyX12 tyX12_ok q2462 q2463 q153 (fun j hj => by rcases (show j = 0 ∨ j = 1 ∨ j = 2 ∨ j = 3 ∨ j = 4 by omega) with rfl | rfl | rfl | rfl | rfl <;> rfl) dX1_run_0 (fun q1 => ?_)
  refine zs_dup hE (zcat_rf _) dX1_run_3 ?_
  refine zs_aload_n hE 0 rfl rfl dX1_run_4 ?_
  refine zs_aload_n hE 0 rfl rfl dX1_run_5 ?_
  refine zs_getR hE (ci := 24) (k := 3) rfl (by decide) in_X1 (Or.inl q394) (Or.inl rfl) dX1_run_6 (fun v2 => ?_)
  refine zs_callV hE (As := []) (encA := encR) (ci := 21) rfl (fun y0 => met_J5_toString K y0) q1252 q102 q2464 q1250 (zq q1251) hd_J5_toString (by decide) (by decide) rfl (by simp [zcat_rf, zcat_i, zcat_j, zcat_f, zcat_d]) (fun z hz => by cases hz) dX1_run_9 (fun r3 => ?_)
  show zS _ 12 _ [va_rf r3, va_rf (some this), va_rf (some q1), va_rf (some q1)] _
  refine zs_callI hE (As := [va_rf (some this), va_rf r3]) (encA := encV) (met_X12_init K q1 (some this) r3) q2467 q153 q2465 q2466 rfl hd_X12_init (by decide) (by decide) rfl (by simp [zcat_rf, zcat_i, zcat_j, zcat_f, zcat_d]) (fun z hz => by cases hz) dX1_run_12 (fun _ => ?_)
  show zS _ 15 _ [va_rf (some q1)] _
  refine zs_astore_n hE (i := 1) (q := 1) rfl (by decide) (zcat_rf (some this)) (lv' := [(0, va_rf (some this))]) rfl dX1_run_15 ?_
  refine zs_aload_n hE 1 rfl rfl dX1_run_16 ?_
  refine zs_getR hE (ci := 24) (k := 3) rfl (by decide) in_X1 (Or.inl q394) (Or.inl rfl) dX1_run_17 (fun v4 => ?_)
  refine zs_iconst hE (v := (0 : Int32)) (by decide) dX1_run_20 ?_
  refine zs_callV hE (As := [.int (0 : Int32)]) (encA := encV) (ci := 21) rfl (fun y0 => met_J5_setLength K y0 (0 : Int32)) q1118 q102 q1115 q1116 (zq q1117) hd_J5_setLength (by decide) (by decide) rfl (by simp [zcat_rf, zcat_i, zcat_j, zcat_f, zcat_d]) (fun z hz => by cases hz) dX1_run_21 (fun _ => ?_)
  show zS _ 24 _ [] _
  refine zs_aload_n hE 0 rfl rfl dX1_run_24 ?_
  refine zs_callV hE (As := []) (encA := encV) (ci := 27) rfl (fun y0 => met_X12_read K y0) q2499 q153 q2496 q2497 (zq q2498) hd_X12_read (by decide) (by decide) rfl (by simp [zcat_rf, zcat_i, zcat_j, zcat_f, zcat_d]) (fun z hz => by cases hz) dX1_run_25 (fun _ => ?_)
  show zS _ 28 _ [] _
  refine zs_aload_n hE 1 rfl rfl dX1_run_28 ?_
  refine zs_aload_n hE 0 rfl rfl dX1_run_29 ?_
  refine zs_getI hE (ci := 27) (k := 3) rfl (by decide) in_X12 (Or.inr ⟨_, zn q2477 rfl⟩) (Or.inl rfl) dX1_run_30 (fun v5 => ?_)
  refine zs_if_eq hE 43 (by decide) dX1_run_33 ?_ ?_
  · refine zs_iconst hE (v := (-1 : Int32)) (by decide) dX1_run_43 ?_
    refine zs_sub [1, 0] rfl ?_
    exact sm_X1_run_J44 hE this q1 (-1 : Int32) this
  · refine zs_aload_n hE 0 rfl rfl dX1_run_36 ?_
    refine zs_getI hE (ci := 27) (k := 2) rfl (by decide) in_X12 (Or.inr ⟨_, zn q2475 rfl⟩) (Or.inl rfl) dX1_run_37 (fun v9 => ?_)
    refine zs_goto hE 44 (by decide) dX1_run_40 ?_
    refine zs_sub [1, 0] rfl ?_
    exact sm_X1_run_J44 hE this q1 v9 this
theorem hd_X1_run : (yX1_run).cls ≠ "java/lang/invoke/MethodHandle" ∧ (yX1_run).cls ≠ "java/lang/invoke/VarHandle" ∧ (parseMethodDescriptor (yX1_run).desc).map (fun d => d.parameters.length) = some 0 := by decide +kernel
theorem met_X1_run (K : ZK) (this : Nat) : zMeth K yX1_run (zws yX1_run cX1_run 2 (Option.some Jvm.ClassFile.FieldType.int)) 14 390 [.ref this] encI (s_X1_run K this) :=
  fun l G hl hK => zmet_of hl hK (by decide +kernel) rfl rfl (by simp [zsl_nil, zsl_rf, zsl_r, zsl_i, zsl_j, zsl_f, zsl_d]) (fun x hE => by simp only [zla_nil, zla_rf, zla_r, zla_i, zla_j, zla_f, zla_d, Nat.reduceAdd]; exact sm_X1_run hE this)
theorem sm_X0_run {x : ZX Int32} {K : ZK} (hE : zE x K cX0_run RX0 "run" 3 15 411 encI (Option.some Jvm.ClassFile.FieldType.int) (tableOf [((0 : Nat), (8 : Nat), (11 : Nat), (41 : Nat)), ((0 : Nat), (8 : Nat), (14 : Nat), (13 : Nat))])) (a1 : Option Nat) (a2 : Option Nat) : zS x 0 [(0, va_rf a1), (1, va_rf a2)] [] (s_X0_run K a1 a2) := by
  unfold s_X0_run
  refine zs_aload_n hE 1 rfl rfl dX0_run_0 ?_
  refine zs_iconst hE (v := (0 : Int32)) (by decide) dX0_run_1 ?_
  refine zs_aload_n hE 0 rfl rfl dX0_run_2 ?_
  refine zs_callVT hE (As := []) (encA := encI) (ci := 24) rfl (fun y0 => met_X1_run K y0) q2461 q95 q2458 q2459 (zq q2460) hd_X1_run (by decide) (by decide) rfl (by simp [zcat_rf, zcat_i, zcat_j, zcat_f, zcat_d]) (zhl_cons (zhnd (tableOf [(0, 8, 11, 41)]) (tableOf []) ⟨0, 8, 14, 13⟩ rfl (fun w hw => by obtain rfl := List.mem_singleton.mp hw; exact Or.inr ⟨by decide, "java/lang/IllegalArgumentException", q2133, List.mem_of_getElem? (i := 3) rfl⟩) (by decide) (by decide) q1765 (zn q1802 rfl) (fun q1 => ?_)) (zhl_cons (zhnd (tableOf []) (tableOf [(0, 8, 14, 13)]) ⟨0, 8, 11, 41⟩ rfl (fun w hw => by cases hw) (by decide) (by decide) q2133 (zn q1287 rfl) (fun q2 => ?_)) zhl_nil)) dX0_run_3 (fun r3 => ?_)
  · have hE := zE_q q1 0 hE
    have hq := zqin_q (x := x) q1 0
    refine zs_astore_n hE (i := 2) (q := 2) rfl (by decide) (zcat_rf a2) (lv' := [(0, va_rf a1), (1, va_rf a2)]) rfl dX0_run_14 ?_
    refine zs_iconst hE (v := (2 : Int32)) (by decide) dX0_run_15 ?_
    exact zs_iret hE dX0_run_16
  · have hE := zE_q q2 1 hE
    have hq := zqin_q (x := x) q2 1
    refine zs_astore_n hE (i := 2) (q := 2) rfl (by decide) (zcat_rf a2) (lv' := [(0, va_rf a1), (1, va_rf a2)]) rfl dX0_run_11 ?_
    refine zs_iconst hE (v := (1 : Int32)) (by decide) dX0_run_12 ?_
    exact zs_iret hE dX0_run_13
  · show zS _ 6 _ [.int r3, .int (0 : Int32), va_rf a2] _
    refine zs_i2l hE dX0_run_6 ?_
    refine zs_astJ hE dX0_run_7 ?_
    refine zs_goto hE 17 (by decide) dX0_run_8 ?_
    refine zs_iconst hE (v := (0 : Int32)) (by decide) dX0_run_17 ?_
    exact zs_iret hE dX0_run_18
theorem hd_X0_run : (yX0_run).cls ≠ "java/lang/invoke/MethodHandle" ∧ (yX0_run).cls ≠ "java/lang/invoke/VarHandle" ∧ (parseMethodDescriptor (yX0_run).desc).map (fun d => d.parameters.length) = some 2 := by decide +kernel
theorem met_X0_run (K : ZK) (a1 : Option Nat) (a2 : Option Nat) : zMeth K yX0_run (zwsW yX0_run cX0_run 3 (Option.some Jvm.ClassFile.FieldType.int) [((0 : Nat), (8 : Nat), (11 : Nat), (41 : Nat)), ((0 : Nat), (8 : Nat), (14 : Nat), (13 : Nat))]) 15 411 [va_rf a1, va_rf a2] encI (s_X0_run K a1 a2) :=
  fun l G hl hK => zmet_ofH hl hK (by decide +kernel) rfl rfl (by simp [zsl_nil, zsl_rf, zsl_r, zsl_i, zsl_j, zsl_f, zsl_d]) (fun x hE => by simp only [zla_nil, zla_rf, zla_r, zla_i, zla_j, zla_f, zla_d, Nat.reduceAdd]; exact sm_X0_run hE a1 a2)
theorem sm_X1_reason_J44 {x : ZX Int32} {K : ZK} (hE : zE x K cX1_reason RX1 "reason" 4 7 140 encI (Option.some Jvm.ClassFile.FieldType.int) []) (x2 : Int32) (x3 : Option Nat) (t0 : Int32) : zS x 44 [(2, .int x2), (3, va_rf x3)] [.int t0] (s_X1_reason_J44 K x2 x3 t0) := by
  unfold s_X1_reason_J44
  refine zs_callS hE (As := [.int t0]) (encA := encV) (met_X1_checkElement K t0) q2156 q95 q2154 q2155 hd_X1_checkElement (by decide) (by decide) rfl (by simp [zcat_rf, zcat_i, zcat_j, zcat_f, zcat_d]) (fun z hz => by cases hz) dX1_reason_44 (fun _ => ?_)
  show zS _ 47 _ [] _
  refine zs_aload_n hE 1 rfl rfl dX1_reason_47 ?_
  refine zs_ifnonnull hE 55 (by decide) dX1_reason_48 ?_ ?_
  · refine zs_iconst hE (v := (0 : Int32)) (by decide) dX1_reason_51 ?_
    refine zs_goto hE 70 (by decide) dX1_reason_52 ?_
    exact zs_iret hE dX1_reason_70
  · refine zs_iload_n hE 0 rfl rfl dX1_reason_55 ?_
    refine zs_if_eq hE 66 (by decide) dX1_reason_56 ?_ ?_
    · refine zs_aload_n hE 1 rfl rfl dX1_reason_66 ?_
      refine zs_getI hE (ci := 36) (k := 0) rfl (by decide) in_X4 (Or.inr ⟨_, zn q1788 rfl⟩) (Or.inl rfl) dX1_reason_67 (fun v4 => ?_)
      exact zs_iret hE dX1_reason_70
    · refine zs_aload_n hE 1 rfl rfl dX1_reason_59 ?_
      refine zs_getI hE (ci := 36) (k := 1) rfl (by decide) in_X4 (Or.inr ⟨_, zn q1790 rfl⟩) (Or.inl rfl) dX1_reason_60 (fun v5 => ?_)
      refine zs_goto hE 70 (by decide) dX1_reason_63 ?_
      exact zs_iret hE dX1_reason_70
theorem sm_X1_reason_J34 {x : ZX Int32} {K : ZK} (hE : zE x K cX1_reason RX1 "reason" 4 7 140 encI (Option.some Jvm.ClassFile.FieldType.int) []) (x2 : Int32) (t0 : Option Nat) : zS x 34 [(2, .int x2)] [va_rf t0] (s_X1_reason_J34 K x2 t0) := by
  unfold s_X1_reason_J34
  refine zs_astore_n hE (i := 3) (q := 3) rfl (by decide) (rfl) (lv' := [(2, .int x2)]) rfl dX1_reason_34 ?_
  refine zs_aload_n hE 0 rfl rfl dX1_reason_35 ?_
  refine zs_ifnull hE 43 (by decide) dX1_reason_36 ?_ ?_
  · refine zs_iconst hE (v := (0 : Int32)) (by decide) dX1_reason_43 ?_
    refine zs_sub [1, 0] rfl ?_
    exact sm_X1_reason_J44 hE x2 t0 (0 : Int32)
  · refine zs_iconst hE (v := (1 : Int32)) (by decide) dX1_reason_39 ?_
    refine zs_goto hE 44 (by decide) dX1_reason_40 ?_
    refine zs_sub [1, 0] rfl ?_
    exact sm_X1_reason_J44 hE x2 t0 (1 : Int32)
theorem sm_X1_reason_J20 {x : ZX Int32} {K : ZK} (hE : zE x K cX1_reason RX1 "reason" 4 7 140 encI (Option.some Jvm.ClassFile.FieldType.int) []) (x0 : Nat) (x2 : Int32) : zS x 20 [(0, va_rf (some x0)), (2, .int x2)] [] (s_X1_reason_J20 K x0 x2) := by
  unfold s_X1_reason_J20
  refine zs_aload_n hE 0 rfl rfl dX1_reason_20 ?_
  refine zs_getR hE (ci := 24) (k := 7) rfl (by decide) in_X1 (Or.inl q398) (Or.inl rfl) dX1_reason_21 (fun v3 => ?_)
  refine zs_goto hE 34 (by decide) dX1_reason_24 ?_
  refine zs_sub [1] rfl ?_
  exact sm_X1_reason_J34 hE x2 v3
theorem sm_X1_reason {x : ZX Int32} {K : ZK} (hE : zE x K cX1_reason RX1 "reason" 4 7 140 encI (Option.some Jvm.ClassFile.FieldType.int) []) (this : Nat) (a1 : Int32) (a2 : Int32) : zS x 0 [(0, va_rf (some this)), (1, .int a1), (2, .int a2)] [] (s_X1_reason K this a1 a2) := by
  unfold s_X1_reason
  refine zs_iload_n hE 1 rfl rfl dX1_reason_0 ?_
  refine zs_iconst hE (v := (0 : Int32)) (by decide) dX1_reason_1 ?_
  refine zs_iconst hE (v := (1 : Int32)) (by decide) dX1_reason_2 ?_
  refine zs_callS hE (As := [.int a1, .int (0 : Int32), .int (1 : Int32)]) (encA := encI) (met_X1_isBetween K a1 (0 : Int32) (1 : Int32)) q1776 q95 q1774 q1775 hd_X1_isBetween (by decide) (by decide) rfl (by simp [zcat_rf, zcat_i, zcat_j, zcat_f, zcat_d]) (fun z hz => by cases hz) dX1_reason_3 (fun r1 => ?_)
  show zS _ 6 _ [.int r1] _
  refine zs_callS hE (As := [.int r1]) (encA := encV) (met_X1_check K r1) q2140 q95 q2138 q2139 hd_X1_check (by decide) (by decide) rfl (by simp [zcat_rf, zcat_i, zcat_j, zcat_f, zcat_d]) (fun z hz => by cases hz) dX1_reason_6 (fun _ => ?_)
  show zS _ 9 _ [] _
  refine zs_aload_n hE 0 rfl rfl dX1_reason_9 ?_
  refine zs_getR hE (ci := 24) (k := 7) rfl (by decide) in_X1 (Or.inl q398) (Or.inl rfl) dX1_reason_10 (fun v2 => ?_)
  refine zs_ifnull hE 20 (by decide) dX1_reason_13 ?_ ?_
  · refine zs_sub [0, 2] rfl ?_
    exact sm_X1_reason_J20 hE this a2
  · refine zs_iload_n hE 1 rfl rfl dX1_reason_16 ?_
    refine zs_if_ne hE 27 (by decide) dX1_reason_17 ?_ ?_
    · refine zs_sub [0, 2] rfl ?_
      exact sm_X1_reason_J20 hE this a2
    · refine zs_aload_n hE 0 rfl rfl dX1_reason_27 ?_
      refine zs_getR hE (ci := 24) (k := 7) rfl (by decide) in_X1 (Or.inl q398) (Or.inl rfl) dX1_reason_28 (fun v6 => ?_)
      refine zs_getR hE (ci := 36) (k := 2) rfl (by decide) in_X4 (Or.inr ⟨_, zn q1792 rfl⟩) (Or.inl rfl) dX1_reason_31 (fun v7 => ?_)
      refine zs_sub [2] rfl ?_
      exact sm_X1_reason_J34 hE a2 v7
theorem hd_X1_reason : (yX1_reason).cls ≠ "java/lang/invoke/MethodHandle" ∧ (yX1_reason).cls ≠ "java/lang/invoke/VarHandle" ∧ (parseMethodDescriptor (yX1_reason).desc).map (fun d => d.parameters.length) = some 2 := by decide +kernel
theorem met_X1_reason (K : ZK) (this : Nat) (a1 : Int32) (a2 : Int32) : zMeth K yX1_reason (zws yX1_reason cX1_reason 4 (Option.some Jvm.ClassFile.FieldType.int)) 7 140 [.ref this, .int a1, .int a2] encI (s_X1_reason K this a1 a2) :=
  fun l G hl hK => zmet_of hl hK (by decide +kernel) rfl rfl (by simp [zsl_nil, zsl_rf, zsl_r, zsl_i, zsl_j, zsl_f, zsl_d]) (fun x hE => by simp only [zla_nil, zla_rf, zla_r, zla_i, zla_j, zla_f, zla_d, Nat.reduceAdd]; exact sm_X1_reason hE this a1 a2)
theorem sm_X0_reason {x : ZX Int32} {K : ZK} (hE : zE x K cX0_reason RX0 "reason" 5 8 163 encI (Option.some Jvm.ClassFile.FieldType.int) (tableOf [((0 : Nat), (10 : Nat), (13 : Nat), (41 : Nat)), ((0 : Nat), (10 : Nat), (17 : Nat), (46 : Nat))])) (a1 : Option Nat) (a2 : Int32) (a3 : Int32) (a4 : Option Nat) : zS x 0 [(0, va_rf a1), (1, .int a2), (2, .int a3), (3, va_rf a4)] [] (s_X0_reason K a1 a2 a3 a4) := by
  unfold s_X0_reason
  refine zs_aload_n hE 3 rfl rfl dX0_reason_0 ?_
  refine zs_iconst hE (v := (0 : Int32)) (by decide) dX0_reason_1 ?_
  refine zs_aload_n hE 0 rfl rfl dX0_reason_2 ?_
  refine zs_iload_n hE 1 rfl rfl dX0_reason_3 ?_
  refine zs_iload_n hE 2 rfl rfl dX0_reason_4 ?_
  refine zs_callVT hE (As := [.int a2, .int a3]) (encA := encI) (ci := 24) rfl (fun y0 => met_X1_reason K y0 a2 a3) q2726 q95 q2723 q2724 (zq q2725) hd_X1_reason (by decide) (by decide) rfl (by simp [zcat_rf, zcat_i, zcat_j, zcat_f, zcat_d]) (zhl_cons (zhnd (tableOf []) (tableOf [(0, 10, 17, 46)]) ⟨0, 10, 13, 41⟩ rfl (fun w hw => by cases hw) (by decide) (by decide) q2133 (zn q1287 rfl) (fun q1 => ?_)) (zhl_cons (zhnd (tableOf [(0, 10, 13, 41)]) (tableOf []) ⟨0, 10, 17, 46⟩ rfl (fun w hw => by obtain rfl := List.mem_singleton.mp hw; exact Or.inr ⟨by decide, "java/lang/IllegalArgumentException", q2133, List.mem_of_getElem? (i := 4) rfl⟩) (by decide) (by decide) q2149 (zn q940 rfl) (fun q2 => ?_)) zhl_nil)) dX0_reason_5 (fun r3 => ?_)
  · have hE := zE_q q1 1 hE
    have hq := zqin_q (x := x) q1 1
    refine zs_astore hE (i := 4) (by decide) (zcat_rf a4) (lv' := [(0, va_rf a1), (1, .int a2), (2, .int a3), (3, va_rf a4)]) rfl dX0_reason_13 ?_
    refine zs_iconst hE (v := (1 : Int32)) (by decide) dX0_reason_15 ?_
    exact zs_iret hE dX0_reason_16
  · have hE := zE_q q2 3 hE
    have hq := zqin_q (x := x) q2 3
    refine zs_astore hE (i := 4) (by decide) (zcat_rf a4) (lv' := [(0, va_rf a1), (1, .int a2), (2, .int a3), (3, va_rf a4)]) rfl dX0_reason_17 ?_
    refine zs_iconst hE (v := (2 : Int32)) (by decide) dX0_reason_19 ?_
    exact zs_iret hE dX0_reason_20
  · show zS _ 8 _ [.int r3, .int (0 : Int32), va_rf a4] _
    refine zs_i2l hE dX0_reason_8 ?_
    refine zs_astJ hE dX0_reason_9 ?_
    refine zs_goto hE 21 (by decide) dX0_reason_10 ?_
    refine zs_iconst hE (v := (0 : Int32)) (by decide) dX0_reason_21 ?_
    exact zs_iret hE dX0_reason_22
theorem hd_X0_reason : (yX0_reason).cls ≠ "java/lang/invoke/MethodHandle" ∧ (yX0_reason).cls ≠ "java/lang/invoke/VarHandle" ∧ (parseMethodDescriptor (yX0_reason).desc).map (fun d => d.parameters.length) = some 4 := by decide +kernel
theorem met_X0_reason (K : ZK) (a1 : Option Nat) (a2 : Int32) (a3 : Int32) (a4 : Option Nat) : zMeth K yX0_reason (zwsW yX0_reason cX0_reason 5 (Option.some Jvm.ClassFile.FieldType.int) [((0 : Nat), (10 : Nat), (13 : Nat), (41 : Nat)), ((0 : Nat), (10 : Nat), (17 : Nat), (46 : Nat))]) 8 163 [va_rf a1, .int a2, .int a3, va_rf a4] encI (s_X0_reason K a1 a2 a3 a4) :=
  fun l G hl hK => zmet_ofH hl hK (by decide +kernel) rfl rfl (by simp [zsl_nil, zsl_rf, zsl_r, zsl_i, zsl_j, zsl_f, zsl_d]) (fun x hE => by simp only [zla_nil, zla_rf, zla_r, zla_i, zla_j, zla_f, zla_d, Nat.reduceAdd]; exact sm_X0_reason hE a1 a2 a3 a4)
theorem sm_J4_inflateIfNeededFor__J5 {x : ZX Unit} {K : ZK} (hE : zE x K cJ4_inflateIfNeededFor RJ4 "inflateIfNeededFor" 2 2 120 encV none []) (this : Nat) (a1 : Option Nat) : zS x 0 [(0, va_rf (some this)), (1, va_rf a1)] [] (s_J4_inflateIfNeededFor__J5 K this a1) := by
  unfold s_J4_inflateIfNeededFor__J5
  refine zs_gets hE (C := "java/lang/String") (v := .int (1 : Int32)) (by simp [zST]) q367 (Or.inl rfl) dJ4_inflateIfNeededFor_0 ?_
  refine zs_if_eq hE 21 (by decide) dJ4_inflateIfNeededFor_3 ?_ ?_
  · exact zs_bad
  · refine zs_aload_n hE 0 rfl rfl dJ4_inflateIfNeededFor_6 ?_
    refine zs_getI hE (ci := 21) (k := 1) rfl (by decide) in_J5 (Or.inl q377) (Or.inl rfl) dJ4_inflateIfNeededFor_7 (fun v1 => ?_)
    refine zs_aload_n hE 1 rfl rfl dJ4_inflateIfNeededFor_10 ?_
    refine zs_callVK hE (As := []) (encA := encI) (ci := 22) rfl (fun y0 => met_J6_coder K y0) q558 q103 q1198 q556 (zq q557) hd_J6_coder (by decide) (by decide) rfl (by simp [zcat_rf, zcat_i, zcat_j, zcat_f, zcat_d]) (fun z hz => by cases hz) dJ4_inflateIfNeededFor_11 (fun r2 => ?_)
    show zS _ 14 _ [.int r2, .int v1] _
    refine zs_icmp_eq hE 21 (by decide) dJ4_inflateIfNeededFor_14 ?_ ?_
    · exact zs_vret hE dJ4_inflateIfNeededFor_21
    · refine zs_aload_n hE 0 rfl rfl dJ4_inflateIfNeededFor_17 ?_
      exact zs_bad
theorem hd_J4_inflateIfNeededFor__J5 : (yJ4_inflateIfNeededFor).cls ≠ "java/lang/invoke/MethodHandle" ∧ (yJ4_inflateIfNeededFor).cls ≠ "java/lang/invoke/VarHandle" ∧ (parseMethodDescriptor (yJ4_inflateIfNeededFor).desc).map (fun d => d.parameters.length) = some 1 := by decide +kernel
theorem met_J4_inflateIfNeededFor__J5 (K : ZK) (this : Nat) (a1 : Option Nat) : zMeth K yJ4_inflateIfNeededFor (zws yJ4_inflateIfNeededFor cJ4_inflateIfNeededFor 2 none) 2 120 [.ref this, va_rf a1] encV (s_J4_inflateIfNeededFor__J5 K this a1) :=
  fun l G hl hK => zmet_of hl hK (by decide +kernel) rfl rfl (by simp [zsl_nil, zsl_rf, zsl_r, zsl_i, zsl_j, zsl_f, zsl_d]) (fun x hE => by simp only [zla_nil, zla_rf, zla_r, zla_i, zla_j, zla_f, zla_d, Nat.reduceAdd]; exact sm_J4_inflateIfNeededFor__J5 hE this a1)
theorem sm_J15_inflate {x : ZX Unit} {K : ZK} (hE : zE x K cJ15_inflate RJ15 "inflate" 5 1 100 encV none []) (a1 : Option Nat) (a2 : Int32) (a3 : Option Nat) (a4 : Int32) (a5 : Int32) : zS x 0 [(0, va_rf a1), (1, .int a2), (2, va_rf a3), (3, .int a4), (4, .int a5)] [] (s_J15_inflate K a1 a2 a3 a4 a5) := by
  unfold s_J15_inflate
  refine zs_aload_n hE 0 rfl rfl dJ15_inflate_0 ?_
  refine zs_iload_n hE 1 rfl rfl dJ15_inflate_1 ?_
  refine zs_aload_n hE 2 rfl rfl dJ15_inflate_2 ?_
  refine zs_iload_n hE 3 rfl rfl dJ15_inflate_3 ?_
  refine zs_iload hE 4 rfl dJ15_inflate_4 ?_
  exact zs_bad
theorem hd_J15_inflate : (yJ15_inflate).cls ≠ "java/lang/invoke/MethodHandle" ∧ (yJ15_inflate).cls ≠ "java/lang/invoke/VarHandle" ∧ (parseMethodDescriptor (yJ15_inflate).desc).map (fun d => d.parameters.length) = some 5 := by decide +kernel
theorem met_J15_inflate (K : ZK) (a1 : Option Nat) (a2 : Int32) (a3 : Option Nat) (a4 : Int32) (a5 : Int32) : zMeth K yJ15_inflate (zws yJ15_inflate cJ15_inflate 5 none) 1 100 [va_rf a1, .int a2, va_rf a3, .int a4, .int a5] encV (s_J15_inflate K a1 a2 a3 a4 a5) :=
  fun l G hl hK => zmet_of hl hK (by decide +kernel) rfl rfl (by simp [zsl_nil, zsl_rf, zsl_r, zsl_i, zsl_j, zsl_f, zsl_d]) (fun x hE => by simp only [zla_nil, zla_rf, zla_r, zla_i, zla_j, zla_f, zla_d, Nat.reduceAdd]; exact sm_J15_inflate hE a1 a2 a3 a4 a5)
theorem sm_J6_getBytes {x : ZX Unit} {K : ZK} (hE : zE x K cJ6_getBytes RJ6 "getBytes" 4 2 124 encV none []) (this : Nat) (a1 : Option Nat) (a2 : Int32) (a3 : Int32) : zS x 0 [(0, va_rf (some this)), (1, va_rf a1), (2, .int a2), (3, .int a3)] [] (s_J6_getBytes K this a1 a2 a3) := by
  unfold s_J6_getBytes
  refine zs_aload_n hE 0 rfl rfl dJ6_getBytes_0 ?_
  refine zs_callVK hE (As := []) (encA := encI) (ci := 22) rfl (fun y0 => met_J6_coder K y0) q558 q103 q555 q556 (zq q557) hd_J6_coder (by decide) (by decide) rfl (by simp [zcat_rf, zcat_i, zcat_j, zcat_f, zcat_d]) (fun z hz => by cases hz) dJ6_getBytes_1 (fun r1 => ?_)
  show zS _ 4 _ [.int r1] _
  refine zs_iload_n hE 3 rfl rfl dJ6_getBytes_4 ?_
  refine zs_icmp_ne hE 28 (by decide) dJ6_getBytes_5 ?_ ?_
  · refine zs_aload_n hE 0 rfl rfl dJ6_getBytes_8 ?_
    refine zs_getRK hE (ci := 22) (k := 0) rfl (by decide) in_J6 (Or.inl q1324) (Or.inl rfl) dJ6_getBytes_9 (fun v2 => ?_)
    refine zs_iconst hE (v := (0 : Int32)) (by decide) dJ6_getBytes_12 ?_
    refine zs_aload_n hE 1 rfl rfl dJ6_getBytes_13 ?_
    refine zs_iload_n hE 2 rfl rfl dJ6_getBytes_14 ?_
    refine zs_iload_n hE 3 rfl rfl dJ6_getBytes_15 ?_
    refine zs_ishl hE dJ6_getBytes_16 ?_
    refine zs_aload_n hE 0 rfl rfl dJ6_getBytes_17 ?_
    refine zs_getRK hE (ci := 22) (k := 0) rfl (by decide) in_J6 (Or.inl q1324) (Or.inl rfl) dJ6_getBytes_18 (fun v3 => ?_)
    refine zs_lenK hE (t := 3) rfl dJ6_getBytes_21 (fun v4 => ?_)
    refine zs_copyB hE q1222 q1173 q1172 q135 (by decide) (by decide) dJ6_getBytes_22 ?_
    refine zs_goto hE 43 (by decide) dJ6_getBytes_25 ?_
    exact zs_vret hE dJ6_getBytes_43
  · refine zs_aload_n hE 0 rfl rfl dJ6_getBytes_28 ?_
    refine zs_getRK hE (ci := 22) (k := 0) rfl (by decide) in_J6 (Or.inl q1324) (Or.inl rfl) dJ6_getBytes_29 (fun v5 => ?_)
    refine zs_iconst hE (v := (0 : Int32)) (by decide) dJ6_getBytes_32 ?_
    refine zs_aload_n hE 1 rfl rfl dJ6_getBytes_33 ?_
    refine zs_iload_n hE 2 rfl rfl dJ6_getBytes_34 ?_
    refine zs_aload_n hE 0 rfl rfl dJ6_getBytes_35 ?_
    refine zs_getRK hE (ci := 22) (k := 0) rfl (by decide) in_J6 (Or.inl q1324) (Or.inl rfl) dJ6_getBytes_36 (fun v6 => ?_)
    refine zs_lenK hE (t := 3) rfl dJ6_getBytes_39 (fun v7 => ?_)
    refine zs_callS hE (As := [va_rf v5, .int (0 : Int32), va_rf a1, .int a2, .int v7]) (encA := encV) (met_J15_inflate K v5 (0 : Int32) a1 a2 v7) q1205 q115 q1223 q1204 hd_J15_inflate (by decide) (by decide) rfl (by simp [zcat_rf, zcat_i, zcat_j, zcat_f, zcat_d]) (fun z hz => by cases hz) dJ6_getBytes_40 (fun _ => ?_)
    show zS _ 43 _ [] _
    exact zs_vret hE dJ6_getBytes_43
theorem hd_J6_getBytes : (yJ6_getBytes).cls ≠ "java/lang/invoke/MethodHandle" ∧ (yJ6_getBytes).cls ≠ "java/lang/invoke/VarHandle" ∧ (parseMethodDescriptor (yJ6_getBytes).desc).map (fun d => d.parameters.length) = some 3 := by decide +kernel
theorem met_J6_getBytes (K : ZK) (this : Nat) (a1 : Option Nat) (a2 : Int32) (a3 : Int32) : zMeth K yJ6_getBytes (zws yJ6_getBytes cJ6_getBytes 4 none) 2 124 [.ref this, va_rf a1, .int a2, .int a3] encV (s_J6_getBytes K this a1 a2 a3) :=
  fun l G hl hK => zmet_of hl hK (by decide +kernel) rfl rfl (by simp [zsl_nil, zsl_rf, zsl_r, zsl_i, zsl_j, zsl_f, zsl_d]) (fun x hE => by simp only [zla_nil, zla_rf, zla_r, zla_i, zla_j, zla_f, zla_d, Nat.reduceAdd]; exact sm_J6_getBytes hE this a1 a2 a3)
theorem sm_J4_putStringAt__J5 {x : ZX Unit} {K : ZK} (hE : zE x K cJ4_putStringAt RJ4 "putStringAt" 3 3 147 encV none []) (this : Nat) (a1 : Int32) (a2 : Option Nat) : zS x 0 [(0, va_rf (some this)), (1, .int a1), (2, va_rf a2)] [] (s_J4_putStringAt__J5 K this a1 a2) := by
  unfold s_J4_putStringAt__J5
  refine zs_aload_n hE 0 rfl rfl dJ4_putStringAt_0 ?_
  refine zs_aload_n hE 2 rfl rfl dJ4_putStringAt_1 ?_
  refine zs_callV hE (As := [va_rf a2]) (encA := encV) (ci := 21) rfl (fun y0 => met_J4_inflateIfNeededFor__J5 K y0 a2) q1197 q101 q1194 q1196 (List.mem_append_left _ (List.mem_of_getElem? (i := 3) rfl)) hd_J4_inflateIfNeededFor__J5 (by decide) (by decide) rfl (by simp [zcat_rf, zcat_i, zcat_j, zcat_f, zcat_d]) (fun z hz => by cases hz) dJ4_putStringAt_2 (fun _ => ?_)
  show zS _ 5 _ [] _
  refine zs_aload_n hE 2 rfl rfl dJ4_putStringAt_5 ?_
  refine zs_aload_n hE 0 rfl rfl dJ4_putStringAt_6 ?_
  refine zs_getR hE (ci := 21) (k := 0) rfl (by decide) in_J5 (Or.inl q376) (Or.inl rfl) dJ4_putStringAt_7 (fun v1 => ?_)
  refine zs_iload_n hE 1 rfl rfl dJ4_putStringAt_10 ?_
  refine zs_aload_n hE 0 rfl rfl dJ4_putStringAt_11 ?_
  refine zs_getI hE (ci := 21) (k := 1) rfl (by decide) in_J5 (Or.inl q377) (Or.inl rfl) dJ4_putStringAt_12 (fun v2 => ?_)
  refine zs_callVK hE (As := [va_rf v1, .int a1, .int v2]) (encA := encV) (ci := 22) rfl (fun y0 => met_J6_getBytes K y0 v1 a1 v2) q1221 q103 q1218 q1219 (zq q1220) hd_J6_getBytes (by decide) (by decide) rfl (by simp [zcat_rf, zcat_i, zcat_j, zcat_f, zcat_d]) (fun z hz => by cases hz) dJ4_putStringAt_15 (fun _ => ?_)
  show zS _ 18 _ [] _
  exact zs_vret hE dJ4_putStringAt_18
theorem hd_J4_putStringAt__J5 : (yJ4_putStringAt).cls ≠ "java/lang/invoke/MethodHandle" ∧ (yJ4_putStringAt).cls ≠ "java/lang/invoke/VarHandle" ∧ (parseMethodDescriptor (yJ4_putStringAt).desc).map (fun d => d.parameters.length) = some 2 := by decide +kernel
theorem met_J4_putStringAt__J5 (K : ZK) (this : Nat) (a1 : Int32) (a2 : Option Nat) : zMeth K yJ4_putStringAt (zws yJ4_putStringAt cJ4_putStringAt 3 none) 3 147 [.ref this, .int a1, va_rf a2] encV (s_J4_putStringAt__J5 K this a1 a2) :=
  fun l G hl hK => zmet_of hl hK (by decide +kernel) rfl rfl (by simp [zsl_nil, zsl_rf, zsl_r, zsl_i, zsl_j, zsl_f, zsl_d]) (fun x hE => by simp only [zla_nil, zla_rf, zla_r, zla_i, zla_j, zla_f, zla_d, Nat.reduceAdd]; exact sm_J4_putStringAt__J5 hE this a1 a2)
theorem sm_J4_append__J5 {x : ZX (Option Nat)} {K : ZK} (hE : zE x K cJ4_append RJ4 "append" 3 5 192 encR (Option.some (Jvm.ClassFile.FieldType.object "java/lang/AbstractStringBuilder")) []) (this : Nat) (a1 : Option Nat) : zS x 0 [(0, va_rf (some this)), (1, va_rf a1)] [] (s_J4_append__J5 K this a1) := by
  unfold s_J4_append__J5
  refine zs_aload_n hE 1 rfl rfl dJ4_append_0 ?_
  refine zs_ifnonnull hE 9 (by decide) dJ4_append_1 ?_ ?_
  · refine zs_aload_n hE 0 rfl rfl dJ4_append_4 ?_
    exact zs_bad
  · refine zs_aload_n hE 1 rfl rfl dJ4_append_9 ?_
    refine zs_callVK hE (As := []) (encA := encI) (ci := 22) rfl (fun y0 => met_J6_length K y0) q1189 q103 q1186 q1187 (zq q1188) hd_J6_length (by decide) (by decide) rfl (by simp [zcat_rf, zcat_i, zcat_j, zcat_f, zcat_d]) (fun z hz => by cases hz) dJ4_append_10 (fun r1 => ?_)
    show zS _ 13 _ [.int r1] _
    refine zs_istore_n hE (i := 2) (q := 2) rfl (by decide) (zcat_rf a1) (lv' := [(0, va_rf (some this)), (1, va_rf a1)]) rfl dJ4_append_13 ?_
    refine zs_aload_n hE 1 rfl rfl dJ4_append_14 ?_
    refine zs_aload_n hE 1 rfl rfl dJ4_append_15 ?_
    refine zs_getI hE (ci := 21) (k := 3) rfl (by decide) in_J5 (Or.inl q380) (Or.inl rfl) dJ4_append_16 (fun v2 => ?_)
    refine zs_iload_n hE 0 rfl rfl dJ4_append_19 ?_
    refine zs_iadd hE dJ4_append_20 ?_
    refine zs_callV hE (As := [.int (v2 + r1)]) (encA := encV) (ci := 21) rfl (fun y0 => met_J4_ensureCapacityInternal__J5 K y0 (v2 + r1)) q1144 q101 q1141 q1143 (List.mem_append_left _ (List.mem_of_getElem? (i := 0) rfl)) hd_J4_ensureCapacityInternal__J5 (by decide) (by decide) rfl (by simp [zcat_rf, zcat_i, zcat_j, zcat_f, zcat_d]) (fun z hz => by cases hz) dJ4_append_21 (fun _ => ?_)
    show zS _ 24 _ [] _
    refine zs_aload_n hE 1 rfl rfl dJ4_append_24 ?_
    refine zs_aload_n hE 1 rfl rfl dJ4_append_25 ?_
    refine zs_getI hE (ci := 21) (k := 3) rfl (by decide) in_J5 (Or.inl q380) (Or.inl rfl) dJ4_append_26 (fun v3 => ?_)
    refine zs_aload_n hE 2 rfl rfl dJ4_append_29 ?_
    refine zs_callV hE (As := [.int v3, va_rf a1]) (encA := encV) (ci := 21) rfl (fun y0 => met_J4_putStringAt__J5 K y0 v3 a1) q1193 q101 q1190 q1192 (List.mem_append_left _ (List.mem_of_getElem? (i := 2) rfl)) hd_J4_putStringAt__J5 (by decide) (by decide) rfl (by simp [zcat_rf, zcat_i, zcat_j, zcat_f, zcat_d]) (fun z hz => by cases hz) dJ4_append_30 (fun _ => ?_)
    show zS _ 33 _ [] _
    refine zs_aload_n hE 1 rfl rfl dJ4_append_33 ?_
    refine zs_dup hE (zcat_rf _) dJ4_append_34 ?_
    refine zs_getI hE (ci := 21) (k := 3) rfl (by decide) in_J5 (Or.inl q380) (Or.inl rfl) dJ4_append_35 (fun v4 => ?_)
    refine zs_iload_n hE 0 rfl rfl dJ4_append_38 ?_
    refine zs_iadd hE dJ4_append_39 ?_
    refine zs_putI hE (ci := 21) (k := 3) rfl (by decide) in_J5 (Or.inl q380) (Or.inl rfl) (Or.inl rfl) (fun h => nomatch h) rfl dJ4_append_40 ?_
    refine zs_aload_n hE 1 rfl rfl dJ4_append_43 ?_
    exact zs_aret hE (Or.inl ⟨_, rfl⟩) dJ4_append_44
theorem hd_J4_append__J5 : (yJ4_append).cls ≠ "java/lang/invoke/MethodHandle" ∧ (yJ4_append).cls ≠ "java/lang/invoke/VarHandle" ∧ (parseMethodDescriptor (yJ4_append).desc).map (fun d => d.parameters.length) = some 1 := by decide +kernel
theorem met_J4_append__J5 (K : ZK) (this : Nat) (a1 : Option Nat) : zMeth K yJ4_append (zws yJ4_append cJ4_append 3 (Option.some (Jvm.ClassFile.FieldType.object "java/lang/AbstractStringBuilder"))) 5 192 [.ref this, va_rf a1] encR (s_J4_append__J5 K this a1) :=
  fun l G hl hK => zmet_of hl hK (by decide +kernel) rfl rfl (by simp [zsl_nil, zsl_rf, zsl_r, zsl_i, zsl_j, zsl_f, zsl_d]) (fun x hE => by simp only [zla_nil, zla_rf, zla_r, zla_i, zla_j, zla_f, zla_d, Nat.reduceAdd]; exact sm_J4_append__J5 hE this a1)
theorem sm_J5_append {x : ZX (Option Nat)} {K : ZK} (hE : zE x K cJ5_append RJ5 "append" 2 6 214 encR (Option.some (Jvm.ClassFile.FieldType.object "java/lang/StringBuilder")) []) (this : Nat) (a1 : Option Nat) : zS x 0 [(0, va_rf (some this)), (1, va_rf a1)] [] (s_J5_append K this a1) := by
  unfold s_J5_append
  refine zs_aload_n hE 0 rfl rfl dJ5_append_0 ?_
  refine zs_aload_n hE 1 rfl rfl dJ5_append_1 ?_
  refine zs_callSU hE (As := [va_rf a1]) (encA := encR) (ci := 21) rfl (fun y0 => met_J4_append__J5 K y0 a1) q1136 q101 q1134 q3289 q389 q1135 ⟨by decide, (hd_J4_append__J5).2.2⟩ (by decide) (by decide) rfl (by simp [zcat_rf, zcat_i, zcat_j, zcat_f, zcat_d]) (fun z hz => by cases hz) dJ5_append_2 (fun r1 => ?_)
  show zS _ 5 _ [va_rf r1] _
  refine zs_pop hE (zcat_rf _) dJ5_append_5 ?_
  refine zs_aload_n hE 0 rfl rfl dJ5_append_6 ?_
  exact zs_aret hE (Or.inl ⟨_, rfl⟩) dJ5_append_7
theorem hd_J5_append : (yJ5_append).cls ≠ "java/lang/invoke/MethodHandle" ∧ (yJ5_append).cls ≠ "java/lang/invoke/VarHandle" ∧ (parseMethodDescriptor (yJ5_append).desc).map (fun d => d.parameters.length) = some 1 := by decide +kernel
theorem met_J5_append (K : ZK) (this : Nat) (a1 : Option Nat) : zMeth K yJ5_append (zws yJ5_append cJ5_append 2 (Option.some (Jvm.ClassFile.FieldType.object "java/lang/StringBuilder"))) 6 214 [.ref this, va_rf a1] encR (s_J5_append K this a1) :=
  fun l G hl hK => zmet_of hl hK (by decide +kernel) rfl rfl (by simp [zsl_nil, zsl_rf, zsl_r, zsl_i, zsl_j, zsl_f, zsl_d]) (fun x hE => by simp only [zla_nil, zla_rf, zla_r, zla_i, zla_j, zla_f, zla_d, Nat.reduceAdd]; exact sm_J5_append hE this a1)
theorem sm_J13_stringSize_B16 {x : ZX Int32} {K : ZK} (hE : zE x K cJ13_stringSize RJ13 "stringSize" 4 1 100 encI (Option.some Jvm.ClassFile.FieldType.int) []) (x0 : Int32) (x1 : Int32) (self16 : (Int32 × Int32) → ZP Int32) (hs16 : ∀ v : Int32 × Int32, zS x 16 [(0, .int x0), (1, .int x1), (2, .int v.1), (3, .int v.2)] [] (self16 v)) (x2 : Int32) (x3 : Int32) : zS x 16 [(0, .int x0), (1, .int x1), (2, .int x2), (3, .int x3)] [] (s_J13_stringSize_B16 K x0 x1 self16 x2 x3) := by
  unfold s_J13_stringSize_B16
  refine zs_iload_n hE 3 rfl rfl dJ13_stringSize_16 ?_
  refine zs_bipush hE (v := (10 : Int32)) (by decide) dJ13_stringSize_17 ?_
  refine zs_icmp_ge hE 42 (by decide) dJ13_stringSize_19 ?_ ?_
  · refine zs_bipush hE (v := (10 : Int32)) (by decide) dJ13_stringSize_42 ?_
    refine zs_iload_n hE 1 rfl rfl dJ13_stringSize_44 ?_
    refine zs_iadd hE dJ13_stringSize_45 ?_
    exact zs_iret hE dJ13_stringSize_46
  · refine zs_iload_n hE 0 rfl rfl dJ13_stringSize_22 ?_
    refine zs_iload_n hE 2 rfl rfl dJ13_stringSize_23 ?_
    refine zs_icmp_le hE 31 (by decide) dJ13_stringSize_24 ?_ ?_
    · refine zs_bipush hE (v := (10 : Int32)) (by decide) dJ13_stringSize_31 ?_
      refine zs_iload_n hE 2 rfl rfl dJ13_stringSize_33 ?_
      refine zs_imul hE dJ13_stringSize_34 ?_
      refine zs_istore_n hE (i := 2) (q := 2) rfl (by decide) (rfl) (lv' := [(0, .int x0), (1, .int x1), (3, .int x3)]) rfl dJ13_stringSize_35 ?_
      refine zs_iinc hE 3 (v := (1 : Int32)) rfl (by decide) (by decide) (rfl) (lv' := [(2, .int ((10 : Int32) * x2)), (0, .int x0), (1, .int x1)]) rfl dJ13_stringSize_36 ?_
      refine zs_goto hE 16 (by decide) dJ13_stringSize_39 ?_
      refine zs_sub [2, 3, 1, 0] rfl ?_
      exact hs16 ((10 : Int32) * x2, x3 + (1 : Int32))
    · refine zs_iload_n hE 3 rfl rfl dJ13_stringSize_27 ?_
      refine zs_iload_n hE 1 rfl rfl dJ13_stringSize_28 ?_
      refine zs_iadd hE dJ13_stringSize_29 ?_
      exact zs_iret hE dJ13_stringSize_30
theorem sm_J13_stringSize_L16 {x : ZX Int32} {K : ZK} (hE : zE x K cJ13_stringSize RJ13 "stringSize" 4 1 100 encI (Option.some Jvm.ClassFile.FieldType.int) []) (x0 : Int32) (x1 : Int32) (v : Int32 × Int32) : zS x 16 [(0, .int x0), (1, .int x1), (2, .int v.1), (3, .int v.2)] [] (s_J13_stringSize_L16 K x0 x1 v) := by
  unfold s_J13_stringSize_L16
  exact zs_loop (lvf := fun v => [(0, .int x0), (1, .int x1), (2, .int v.1), (3, .int v.2)]) (fun self16 hs16 v => sm_J13_stringSize_B16 hE x0 x1 self16 hs16 v.1 v.2) v
theorem sm_J13_stringSize {x : ZX Int32} {K : ZK} (hE : zE x K cJ13_stringSize RJ13 "stringSize" 4 1 100 encI (Option.some Jvm.ClassFile.FieldType.int) []) (a1 : Int32) : zS x 0 [(0, .int a1)] [] (s_J13_stringSize K a1) := by
  unfold s_J13_stringSize
  refine zs_iconst hE (v := (1 : Int32)) (by decide) dJ13_stringSize_0 ?_
  refine zs_istore_n hE (i := 1) (q := 1) rfl (by decide) (rfl) (lv' := [(0, .int a1)]) rfl dJ13_stringSize_1 ?_
  refine zs_iload_n hE 1 rfl rfl dJ13_stringSize_2 ?_
  refine zs_if_lt hE 11 (by decide) dJ13_stringSize_3 ?_ ?_
  · refine zs_bipush hE (v := (-10 : Int32)) (by decide) dJ13_stringSize_11 ?_
    refine zs_istore_n hE (i := 2) (q := 2) rfl (by decide) (rfl) (lv' := [(1, .int (1 : Int32)), (0, .int a1)]) rfl dJ13_stringSize_13 ?_
    refine zs_iconst hE (v := (1 : Int32)) (by decide) dJ13_stringSize_14 ?_
    refine zs_istore_n hE (i := 3) (q := 3) rfl (by decide) (rfl) (lv' := [(2, .int (-10 : Int32)), (1, .int (1 : Int32)), (0, .int a1)]) rfl dJ13_stringSize_15 ?_
    refine zs_sub [3, 2, 1, 0] rfl ?_
    exact sm_J13_stringSize_L16 hE a1 (1 : Int32) ((-10 : Int32), (1 : Int32))
  · refine zs_iconst hE (v := (0 : Int32)) (by decide) dJ13_stringSize_6 ?_
    refine zs_istore_n hE (i := 1) (q := 1) rfl (by decide) (rfl) (lv' := [(0, .int a1)]) rfl dJ13_stringSize_7 ?_
    refine zs_iload_n hE 1 rfl rfl dJ13_stringSize_8 ?_
    refine zs_ineg hE dJ13_stringSize_9 ?_
    refine zs_istore_n hE (i := 0) (q := 0) rfl (by decide) (trivial) (lv' := [(1, .int (0 : Int32))]) rfl dJ13_stringSize_10 ?_
    refine zs_bipush hE (v := (-10 : Int32)) (by decide) dJ13_stringSize_11 ?_
    refine zs_istore_n hE (i := 2) (q := 2) rfl (by decide) (rfl) (lv' := [(0, .int (-a1)), (1, .int (0 : Int32))]) rfl dJ13_stringSize_13 ?_
    refine zs_iconst hE (v := (1 : Int32)) (by decide) dJ13_stringSize_14 ?_
    refine zs_istore_n hE (i := 3) (q := 3) rfl (by decide) (rfl) (lv' := [(2, .int (-10 : Int32)), (0, .int (-a1)), (1, .int (0 : Int32))]) rfl dJ13_stringSize_15 ?_
    refine zs_sub [2, 3, 1, 0] rfl ?_
    exact sm_J13_stringSize_L16 hE (-a1) (0 : Int32) ((-10 : Int32), (1 : Int32))
theorem hd_J13_stringSize : (yJ13_stringSize).cls ≠ "java/lang/invoke/MethodHandle" ∧ (yJ13_stringSize).cls ≠ "java/lang/invoke/VarHandle" ∧ (parseMethodDescriptor (yJ13_stringSize).desc).map (fun d => d.parameters.length) = some 1 := by decide +kernel
theorem met_J13_stringSize (K : ZK) (a1 : Int32) : zMeth K yJ13_stringSize (zws yJ13_stringSize cJ13_stringSize 4 (Option.some Jvm.ClassFile.FieldType.int)) 1 100 [.int a1] encI (s_J13_stringSize K a1) :=
  fun l G hl hK => zmet_of hl hK (by decide +kernel) rfl rfl (by simp [zsl_nil, zsl_rf, zsl_r, zsl_i, zsl_j, zsl_f, zsl_d]) (fun x hE => by simp only [zla_nil, zla_rf, zla_r, zla_i, zla_j, zla_f, zla_d, Nat.reduceAdd]; exact sm_J13_stringSize hE a1)
theorem sm_J13_getChars_J104 {x : ZX Int32} {K : ZK} (hE : zE x K cJ13_getChars RJ13 "getChars" 7 1 100 encI (Option.some Jvm.ClassFile.FieldType.int) []) (x2 : Option Nat) (x5 : Int32) (x6 : Int32) : zS x 104 [(2, va_rf x2), (5, .int x5), (6, .int x6)] [] (s_J13_getChars_J104 K x2 x5 x6) := by
  unfold s_J13_getChars_J104
  refine zs_iload hE 2 rfl dJ13_getChars_104 ?_
  refine zs_if_eq hE 118 (by decide) dJ13_getChars_106 ?_ ?_
  · refine zs_iload hE 1 rfl dJ13_getChars_118 ?_
    exact zs_iret hE dJ13_getChars_120
  · refine zs_aload_n hE 0 rfl rfl dJ13_getChars_109 ?_
    refine zs_iinc hE 1 (v := (-1 : Int32)) rfl (by decide) (by decide) (trivial) (lv' := [(2, va_rf x2), (6, .int x6)]) rfl dJ13_getChars_110 ?_
    refine zs_iload hE 0 rfl dJ13_getChars_113 ?_
    refine zs_bipush hE (v := (45 : Int32)) (by decide) dJ13_getChars_115 ?_
    refine zs_astB hE dJ13_getChars_117 ?_
    refine zs_iload hE 0 rfl dJ13_getChars_118 ?_
    exact zs_iret hE dJ13_getChars_120
theorem sm_J13_getChars_B22 {x : ZX Int32} {K : ZK} (hE : zE x K cJ13_getChars RJ13 "getChars" 7 1 100 encI (Option.some Jvm.ClassFile.FieldType.int) []) (x2 : Option Nat) (x6 : Int32) (self22 : (Int32 × Int32) → ZP Int32) (hs22 : ∀ v : Int32 × Int32, zS x 22 [(0, .int v.1), (2, va_rf x2), (5, .int v.2), (6, .int x6)] [] (self22 v)) (x0 : Int32) (x5 : Int32) : zS x 22 [(0, .int x0), (2, va_rf x2), (5, .int x5), (6, .int x6)] [] (s_J13_getChars_B22 K x2 x6 self22 x0 x5) := by
  unfold s_J13_getChars_B22
  refine zs_iload_n hE 0 rfl rfl dJ13_getChars_22 ?_
  refine zs_bipush hE (v := (-100 : Int32)) (by decide) dJ13_getChars_23 ?_
  refine zs_icmp_gt hE 72 (by decide) dJ13_getChars_25 ?_ ?_
  · refine zs_aload_n hE 1 rfl rfl dJ13_getChars_72 ?_
    refine zs_iinc hE 2 (v := (-1 : Int32)) rfl (by decide) (by decide) (trivial) (lv' := [(0, .int x0), (2, va_rf x2), (6, .int x6)]) rfl dJ13_getChars_73 ?_
    refine zs_iload hE 0 rfl dJ13_getChars_76 ?_
    refine zs_gets hE (C := "java/lang/Integer") (v := .ref (K.1 3)) (by simp [zST]) q1237 (Or.inl rfl) dJ13_getChars_78 ?_
    show zS _ 81 _ (va_rf (some (K.1 3)) :: _) _
    refine zs_iload_n hE 1 rfl rfl dJ13_getChars_81 ?_
    refine zs_ineg hE dJ13_getChars_82 ?_
    refine zs_aldK hE dJ13_getChars_83 (fun v1 => ?_)
    refine zs_astB hE dJ13_getChars_84 ?_
    refine zs_iload_n hE 1 rfl rfl dJ13_getChars_85 ?_
    refine zs_bipush hE (v := (-9 : Int32)) (by decide) dJ13_getChars_86 ?_
    refine zs_icmp_ge hE 104 (by decide) dJ13_getChars_88 ?_ ?_
    · refine zs_sub [2, 0, 3] rfl ?_
      exact sm_J13_getChars_J104 hE x2 (x5 + (-1 : Int32)) x6
    · refine zs_aload_n hE 2 rfl rfl dJ13_getChars_91 ?_
      refine zs_iinc hE 0 (v := (-1 : Int32)) rfl (by decide) (by decide) (trivial) (lv' := [(0, .int x0), (2, va_rf x2), (6, .int x6)]) rfl dJ13_getChars_92 ?_
      refine zs_iload hE 0 rfl dJ13_getChars_95 ?_
      refine zs_gets hE (C := "java/lang/Integer") (v := .ref (K.1 2)) (by simp [zST]) q1239 (Or.inl rfl) dJ13_getChars_97 ?_
      show zS _ 100 _ (va_rf (some (K.1 2)) :: _) _
      refine zs_iload_n hE 1 rfl rfl dJ13_getChars_100 ?_
      refine zs_ineg hE dJ13_getChars_101 ?_
      refine zs_aldK hE dJ13_getChars_102 (fun v2 => ?_)
      refine zs_astB hE dJ13_getChars_103 ?_
      refine zs_sub [2, 0, 3] rfl ?_
      exact sm_J13_getChars_J104 hE x2 ((x5 + (-1 : Int32)) + (-1 : Int32)) x6
  · refine zs_iload_n hE 0 rfl rfl dJ13_getChars_28 ?_
    refine zs_bipush hE (v := (100 : Int32)) (by decide) dJ13_getChars_29 ?_
    refine zs_idiv hE dJ13_getChars_31 ?_
    refine zs_istore_n hE (i := 3) (q := 3) rfl (by decide) (zcat_rf x2) (lv' := [(0, .int x0), (2, va_rf x2), (5, .int x5), (6, .int x6)]) rfl dJ13_getChars_32 ?_
    refine zs_iload_n hE 0 rfl rfl dJ13_getChars_33 ?_
    refine zs_bipush hE (v := (100 : Int32)) (by decide) dJ13_getChars_34 ?_
    refine zs_imul hE dJ13_getChars_36 ?_
    refine zs_iload_n hE 1 rfl rfl dJ13_getChars_37 ?_
    refine zs_isub hE dJ13_getChars_38 ?_
    refine zs_istore hE (i := 4) (by decide) (rfl) (lv' := [(3, .int (x0 / (100 : Int32))), (0, .int x0), (2, va_rf x2), (5, .int x5), (6, .int x6)]) rfl dJ13_getChars_39 ?_
    refine zs_iload_n hE 1 rfl rfl dJ13_getChars_41 ?_
    refine zs_istore_n hE (i := 0) (q := 0) rfl (by decide) (trivial) (lv' := [(4, .int (((x0 / (100 : Int32)) * (100 : Int32)) - x0)), (3, .int (x0 / (100 : Int32))), (2, va_rf x2), (5, .int x5), (6, .int x6)]) rfl dJ13_getChars_42 ?_
    refine zs_aload_n hE 3 rfl rfl dJ13_getChars_43 ?_
    refine zs_iinc hE 4 (v := (-1 : Int32)) rfl (by decide) (by decide) (rfl) (lv' := [(0, .int (x0 / (100 : Int32))), (4, .int (((x0 / (100 : Int32)) * (100 : Int32)) - x0)), (3, .int (x0 / (100 : Int32))), (2, va_rf x2), (6, .int x6)]) rfl dJ13_getChars_44 ?_
    refine zs_iload hE 0 rfl dJ13_getChars_47 ?_
    refine zs_gets hE (C := "java/lang/Integer") (v := .ref (K.1 3)) (by simp [zST]) q1237 (Or.inl rfl) dJ13_getChars_49 ?_
    show zS _ 52 _ (va_rf (some (K.1 3)) :: _) _
    refine zs_iload hE 2 rfl dJ13_getChars_52 ?_
    refine zs_aldK hE dJ13_getChars_54 (fun v3 => ?_)
    refine zs_astB hE dJ13_getChars_55 ?_
    refine zs_aload_n hE 4 rfl rfl dJ13_getChars_56 ?_
    refine zs_iinc hE 0 (v := (-1 : Int32)) rfl (by decide) (by decide) (rfl) (lv' := [(0, .int (x0 / (100 : Int32))), (4, .int (((x0 / (100 : Int32)) * (100 : Int32)) - x0)), (3, .int (x0 / (100 : Int32))), (2, va_rf x2), (6, .int x6)]) rfl dJ13_getChars_57 ?_
    refine zs_iload hE 0 rfl dJ13_getChars_60 ?_
    refine zs_gets hE (C := "java/lang/Integer") (v := .ref (K.1 2)) (by simp [zST]) q1239 (Or.inl rfl) dJ13_getChars_62 ?_
    show zS _ 65 _ (va_rf (some (K.1 2)) :: _) _
    refine zs_iload hE 2 rfl dJ13_getChars_65 ?_
    refine zs_aldK hE dJ13_getChars_67 (fun v4 => ?_)
    refine zs_astB hE dJ13_getChars_68 ?_
    refine zs_goto hE 22 (by decide) dJ13_getChars_69 ?_
    refine zs_sub [1, 4, 0, 5] rfl ?_
    exact hs22 (x0 / (100 : Int32), (x5 + (-1 : Int32)) + (-1 : Int32))
theorem sm_J13_getChars_L22 {x : ZX Int32} {K : ZK} (hE : zE x K cJ13_getChars RJ13 "getChars" 7 1 100 encI (Option.some Jvm.ClassFile.FieldType.int) []) (x2 : Option Nat) (x6 : Int32) (v : Int32 × Int32) : zS x 22 [(0, .int v.1), (2, va_rf x2), (5, .int v.2), (6, .int x6)] [] (s_J13_getChars_L22 K x2 x6 v) := by
  unfold s_J13_getChars_L22
  exact zs_loop (lvf := fun v => [(0, .int v.1), (2, va_rf x2), (5, .int v.2), (6, .int x6)]) (fun self22 hs22 v => sm_J13_getChars_B22 hE x2 x6 self22 hs22 v.1 v.2) v
theorem sm_J13_getChars_J12 {x : ZX Int32} {K : ZK} (hE : zE x K cJ13_getChars RJ13 "getChars" 7 1 100 encI (Option.some Jvm.ClassFile.FieldType.int) []) (x0 : Int32) (x2 : Option Nat) (x5 : Int32) (t0 : Int32) : zS x 12 [(0, .int x0), (2, va_rf x2), (5, .int x5)] [.int t0] (s_J13_getChars_J12 K x0 x2 x5 t0) := by
  unfold s_J13_getChars_J12
  refine zs_istore hE (i := 6) (by decide) (rfl) (lv' := [(0, .int x0), (2, va_rf x2), (5, .int x5)]) rfl dJ13_getChars_12 ?_
  refine zs_iload hE 0 rfl dJ13_getChars_14 ?_
  refine zs_if_ne hE 22 (by decide) dJ13_getChars_16 ?_ ?_
  · refine zs_iload_n hE 1 rfl rfl dJ13_getChars_19 ?_
    refine zs_ineg hE dJ13_getChars_20 ?_
    refine zs_istore_n hE (i := 0) (q := 0) rfl (by decide) (trivial) (lv' := [(6, .int t0), (2, va_rf x2), (5, .int x5)]) rfl dJ13_getChars_21 ?_
    refine zs_sub [0, 2, 3, 1] rfl ?_
    exact sm_J13_getChars_L22 hE x2 t0 (-x0, x5)
  · refine zs_sub [1, 2, 3, 0] rfl ?_
    exact sm_J13_getChars_L22 hE x2 t0 (x0, x5)
theorem sm_J13_getChars {x : ZX Int32} {K : ZK} (hE : zE x K cJ13_getChars RJ13 "getChars" 7 1 100 encI (Option.some Jvm.ClassFile.FieldType.int) []) (a1 : Int32) (a2 : Int32) (a3 : Option Nat) : zS x 0 [(0, .int a1), (1, .int a2), (2, va_rf a3)] [] (s_J13_getChars K a1 a2 a3) := by
  unfold s_J13_getChars
  refine zs_iload_n hE 1 rfl rfl dJ13_getChars_0 ?_
  refine zs_istore hE (i := 5) (by decide) (trivial) (lv' := [(0, .int a1), (1, .int a2), (2, va_rf a3)]) rfl dJ13_getChars_1 ?_
  refine zs_iload_n hE 1 rfl rfl dJ13_getChars_3 ?_
  refine zs_if_ge hE 11 (by decide) dJ13_getChars_4 ?_ ?_
  · refine zs_iconst hE (v := (0 : Int32)) (by decide) dJ13_getChars_11 ?_
    refine zs_sub [1, 3, 0] rfl ?_
    exact sm_J13_getChars_J12 hE a1 a3 a2 (0 : Int32)
  · refine zs_iconst hE (v := (1 : Int32)) (by decide) dJ13_getChars_7 ?_
    refine zs_goto hE 12 (by decide) dJ13_getChars_8 ?_
    refine zs_sub [1, 3, 0] rfl ?_
    exact sm_J13_getChars_J12 hE a1 a3 a2 (1 : Int32)
theorem hd_J13_getChars : (yJ13_getChars).cls ≠ "java/lang/invoke/MethodHandle" ∧ (yJ13_getChars).cls ≠ "java/lang/invoke/VarHandle" ∧ (parseMethodDescriptor (yJ13_getChars).desc).map (fun d => d.parameters.length) = some 3 := by decide +kernel
theorem met_J13_getChars (K : ZK) (a1 : Int32) (a2 : Int32) (a3 : Option Nat) : zMeth K yJ13_getChars (zws yJ13_getChars cJ13_getChars 7 (Option.some Jvm.ClassFile.FieldType.int)) 1 100 [.int a1, .int a2, va_rf a3] encI (s_J13_getChars K a1 a2 a3) :=
  fun l G hl hK => zmet_of hl hK (by decide +kernel) rfl rfl (by simp [zsl_nil, zsl_rf, zsl_r, zsl_i, zsl_j, zsl_f, zsl_d]) (fun x hE => by simp only [zla_nil, zla_rf, zla_r, zla_i, zla_j, zla_f, zla_d, Nat.reduceAdd]; exact sm_J13_getChars hE a1 a2 a3)
theorem sm_J4_append_2__J5_J48 {x : ZX (Option Nat)} {K : ZK} (hE : zE x K cJ4_append_2 RJ4 "append" 4 5 192 encR (Option.some (Jvm.ClassFile.FieldType.object "java/lang/AbstractStringBuilder")) []) (x0 : Nat) (x3 : Int32) : zS x 48 [(0, va_rf (some x0)), (3, .int x3)] [] (s_J4_append_2__J5_J48 K x0 x3) := by
  unfold s_J4_append_2__J5_J48
  refine zs_aload_n hE 0 rfl rfl dJ4_append_2_48 ?_
  refine zs_iload_n hE 1 rfl rfl dJ4_append_2_49 ?_
  refine zs_putI hE (ci := 21) (k := 3) rfl (by decide) in_J5 (Or.inl q380) (Or.inl rfl) (Or.inl rfl) (fun h => nomatch h) rfl dJ4_append_2_50 ?_
  refine zs_aload_n hE 0 rfl rfl dJ4_append_2_53 ?_
  exact zs_aret hE (Or.inl ⟨_, rfl⟩) dJ4_append_2_54
theorem sm_J4_append_2__J5 {x : ZX (Option Nat)} {K : ZK} (hE : zE x K cJ4_append_2 RJ4 "append" 4 5 192 encR (Option.some (Jvm.ClassFile.FieldType.object "java/lang/AbstractStringBuilder")) []) (this : Nat) (a1 : Int32) : zS x 0 [(0, va_rf (some this)), (1, .int a1)] [] (s_J4_append_2__J5 K this a1) := by
  unfold s_J4_append_2__J5
  refine zs_aload_n hE 0 rfl rfl dJ4_append_2_0 ?_
  refine zs_getI hE (ci := 21) (k := 3) rfl (by decide) in_J5 (Or.inl q380) (Or.inl rfl) dJ4_append_2_1 (fun v1 => ?_)
  refine zs_istore_n hE (i := 2) (q := 2) rfl (by decide) (rfl) (lv' := [(0, va_rf (some this)), (1, .int a1)]) rfl dJ4_append_2_4 ?_
  refine zs_iload_n hE 0 rfl rfl dJ4_append_2_5 ?_
  refine zs_iload_n hE 2 rfl rfl dJ4_append_2_6 ?_
  refine zs_callS hE (As := [.int a1]) (encA := encI) (met_J13_stringSize K a1) q1233 q112 q1231 q1232 hd_J13_stringSize (by decide) (by decide) rfl (by simp [zcat_rf, zcat_i, zcat_j, zcat_f, zcat_d]) (fun z hz => by cases hz) dJ4_append_2_7 (fun r2 => ?_)
  show zS _ 10 _ [.int r2, .int v1] _
  refine zs_iadd hE dJ4_append_2_10 ?_
  refine zs_istore_n hE (i := 3) (q := 3) rfl (by decide) (rfl) (lv' := [(2, .int v1), (0, va_rf (some this)), (1, .int a1)]) rfl dJ4_append_2_11 ?_
  refine zs_aload_n hE 2 rfl rfl dJ4_append_2_12 ?_
  refine zs_iload_n hE 0 rfl rfl dJ4_append_2_13 ?_
  refine zs_callV hE (As := [.int (v1 + r2)]) (encA := encV) (ci := 21) rfl (fun y0 => met_J4_ensureCapacityInternal__J5 K y0 (v1 + r2)) q1144 q101 q1141 q1143 (List.mem_append_left _ (List.mem_of_getElem? (i := 0) rfl)) hd_J4_ensureCapacityInternal__J5 (by decide) (by decide) rfl (by simp [zcat_rf, zcat_i, zcat_j, zcat_f, zcat_d]) (fun z hz => by cases hz) dJ4_append_2_14 (fun _ => ?_)
  show zS _ 17 _ [] _
  refine zs_aload_n hE 2 rfl rfl dJ4_append_2_17 ?_
  refine zs_callV hE (As := []) (encA := encI) (ci := 21) rfl (fun y0 => met_J4_isLatin1__J5 K y0) q728 q101 q724 q725 (zq q727) hd_J4_isLatin1__J5 (by decide) (by decide) rfl (by simp [zcat_rf, zcat_i, zcat_j, zcat_f, zcat_d]) (fun z hz => by cases hz) dJ4_append_2_18 (fun r3 => ?_)
  show zS _ 21 _ [.int r3] _
  refine zs_if_eq hE 37 (by decide) dJ4_append_2_21 ?_ ?_
  · refine zs_iload_n hE 3 rfl rfl dJ4_append_2_37 ?_
    refine zs_iload_n hE 1 rfl rfl dJ4_append_2_38 ?_
    refine zs_iload_n hE 0 rfl rfl dJ4_append_2_39 ?_
    refine zs_aload_n hE 2 rfl rfl dJ4_append_2_40 ?_
    refine zs_getR hE (ci := 21) (k := 0) rfl (by decide) in_J5 (Or.inl q376) (Or.inl rfl) dJ4_append_2_41 (fun v4 => ?_)
    exact zs_bad
  · refine zs_iload_n hE 3 rfl rfl dJ4_append_2_24 ?_
    refine zs_iload_n hE 0 rfl rfl dJ4_append_2_25 ?_
    refine zs_aload_n hE 2 rfl rfl dJ4_append_2_26 ?_
    refine zs_getR hE (ci := 21) (k := 0) rfl (by decide) in_J5 (Or.inl q376) (Or.inl rfl) dJ4_append_2_27 (fun v5 => ?_)
    refine zs_callS hE (As := [.int a1, .int (v1 + r2), va_rf v5]) (encA := encI) (met_J13_getChars K a1 (v1 + r2) v5) q1236 q112 q1234 q1235 hd_J13_getChars (by decide) (by decide) rfl (by simp [zcat_rf, zcat_i, zcat_j, zcat_f, zcat_d]) (fun z hz => by cases hz) dJ4_append_2_30 (fun r6 => ?_)
    show zS _ 33 _ [.int r6] _
    refine zs_pop hE (rfl) dJ4_append_2_33 ?_
    refine zs_goto hE 48 (by decide) dJ4_append_2_34 ?_
    refine zs_sub [2, 0] rfl ?_
    exact sm_J4_append_2__J5_J48 hE this (v1 + r2)
theorem hd_J4_append_2__J5 : (yJ4_append_2).cls ≠ "java/lang/invoke/MethodHandle" ∧ (yJ4_append_2).cls ≠ "java/lang/invoke/VarHandle" ∧ (parseMethodDescriptor (yJ4_append_2).desc).map (fun d => d.parameters.length) = some 1 := by decide +kernel
theorem met_J4_append_2__J5 (K : ZK) (this : Nat) (a1 : Int32) : zMeth K yJ4_append_2 (zws yJ4_append_2 cJ4_append_2 4 (Option.some (Jvm.ClassFile.FieldType.object "java/lang/AbstractStringBuilder"))) 5 192 [.ref this, .int a1] encR (s_J4_append_2__J5 K this a1) :=
  fun l G hl hK => zmet_of hl hK (by decide +kernel) rfl rfl (by simp [zsl_nil, zsl_rf, zsl_r, zsl_i, zsl_j, zsl_f, zsl_d]) (fun x hE => by simp only [zla_nil, zla_rf, zla_r, zla_i, zla_j, zla_f, zla_d, Nat.reduceAdd]; exact sm_J4_append_2__J5 hE this a1)
theorem sm_J5_append_2 {x : ZX (Option Nat)} {K : ZK} (hE : zE x K cJ5_append_2 RJ5 "append" 2 6 215 encR (Option.some (Jvm.ClassFile.FieldType.object "java/lang/StringBuilder")) []) (this : Nat) (a1 : Int32) : zS x 0 [(0, va_rf (some this)), (1, .int a1)] [] (s_J5_append_2 K this a1) := by
  unfold s_J5_append_2
  refine zs_aload_n hE 0 rfl rfl dJ5_append_2_0 ?_
  refine zs_iload_n hE 1 rfl rfl dJ5_append_2_1 ?_
  refine zs_callSU hE (As := [.int a1]) (encA := encR) (ci := 21) rfl (fun y0 => met_J4_append_2__J5 K y0 a1) q1230 q101 q1228 q3296 q389 q1229 ⟨by decide, (hd_J4_append_2__J5).2.2⟩ (by decide) (by decide) rfl (by simp [zcat_rf, zcat_i, zcat_j, zcat_f, zcat_d]) (fun z hz => by cases hz) dJ5_append_2_2 (fun r1 => ?_)
  show zS _ 5 _ [va_rf r1] _
  refine zs_pop hE (zcat_rf _) dJ5_append_2_5 ?_
  refine zs_aload_n hE 0 rfl rfl dJ5_append_2_6 ?_
  exact zs_aret hE (Or.inl ⟨_, rfl⟩) dJ5_append_2_7
theorem hd_J5_append_2 : (yJ5_append_2).cls ≠ "java/lang/invoke/MethodHandle" ∧ (yJ5_append_2).cls ≠ "java/lang/invoke/VarHandle" ∧ (parseMethodDescriptor (yJ5_append_2).desc).map (fun d => d.parameters.length) = some 1 := by decide +kernel
theorem met_J5_append_2 (K : ZK) (this : Nat) (a1 : Int32) : zMeth K yJ5_append_2 (zws yJ5_append_2 cJ5_append_2 2 (Option.some (Jvm.ClassFile.FieldType.object "java/lang/StringBuilder"))) 6 215 [.ref this, .int a1] encR (s_J5_append_2 K this a1) :=
  fun l G hl hK => zmet_of hl hK (by decide +kernel) rfl rfl (by simp [zsl_nil, zsl_rf, zsl_r, zsl_i, zsl_j, zsl_f, zsl_d]) (fun x hE => by simp only [zla_nil, zla_rf, zla_r, zla_i, zla_j, zla_f, zla_d, Nat.reduceAdd]; exact sm_J5_append_2 hE this a1)
