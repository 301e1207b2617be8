/-! SIM-LAYER, written by gen/dec.py -/
theorem sm_X1_tellQueue_J121 {x : ZX Int32} {K : ZK} (hE : zE x K cX1_tellQueue RX1 "tellQueue" 5 8 250 encI (Option.some Jvm.ClassFile.FieldType.int) []) (x0 : Nat) (t0 : Option Nat) (t1 : Option Nat) : zS x 121 [(0, va_rf (some x0))] [va_rf t0, va_rf t1] (s_X1_tellQueue_J121 K x0 t0 t1) := by
  unfold s_X1_tellQueue_J121
  refine zs_callV hE (As := [va_rf t0]) (encA := encR) (ci := 21) rfl (fun y0 => met_J5_append K y0 t0) q1133 q102 q1396 q1131 (zq q1132) hd_J5_append (by decide) (by decide) rfl (by simp [zcat_rf, zcat_i, zcat_j, zcat_f, zcat_d]) (fun z hz => by cases hz) dX1_tellQueue_121 (fun r9 => ?_)
  show zS _ 124 _ [va_rf r9] _
  refine zs_pop hE (zcat_rf _) dX1_tellQueue_124 ?_
  refine zs_aload_n hE 0 rfl rfl dX1_tellQueue_125 ?_
  refine zs_getR hE (ci := 24) (k := 4) rfl (by decide) in_X1 (Or.inl q395) (Or.inl rfl) dX1_tellQueue_126 (fun v10 => ?_)
  refine zs_callV hE (As := []) (encA := encI) (ci := 21) rfl (fun y0 => met_J5_length K y0) q1272 q102 q1393 q1271 (zq q3297) hd_J5_length (by decide) (by decide) rfl (by simp [zcat_rf, zcat_i, zcat_j, zcat_f, zcat_d]) (fun z hz => by cases hz) dX1_tellQueue_129 (fun r11 => ?_)
  show zS _ 132 _ [.int r11] _
  exact zs_iret hE dX1_tellQueue_132
theorem sm_X1_tellQueue_J65 {x : ZX Int32} {K : ZK} (hE : zE x K cX1_tellQueue RX1 "tellQueue" 5 8 250 encI (Option.some Jvm.ClassFile.FieldType.int) []) (x0 : Nat) (x2 : Option Nat) (x3 : Option Nat) (x4 : Option Nat) (t0 : Option Nat) (t1 : Option Nat) (self22 : Unit → ZP Int32) (hs22 : ∀ v : Unit, zS x 22 [(0, va_rf (some x0)), (2, va_rf x2), (3, va_rf x3)] [] (self22 v)) : zS x 65 [(0, va_rf (some x0)), (2, va_rf x2), (3, va_rf x3), (4, va_rf x4)] [va_rf t0, va_rf t1] (s_X1_tellQueue_J65 K x0 x2 x3 x4 t0 t1 self22) := by
  unfold s_X1_tellQueue_J65
  refine zs_callV hE (As := [va_rf t0]) (encA := encR) (ci := 21) rfl (fun y0 => met_J5_append K y0 t0) q1133 q102 q1396 q1131 (zq q1132) hd_J5_append (by decide) (by decide) rfl (by simp [zcat_rf, zcat_i, zcat_j, zcat_f, zcat_d]) (fun z hz => by cases hz) dX1_tellQueue_65 (fun r16 => ?_)
  show zS _ 68 _ [va_rf r16] _
  refine zs_bipush hE (v := (35 : Int32)) (by decide) dX1_tellQueue_68 ?_
  refine zs_callV hE (As := [.int (35 : Int32)]) (encA := encR) (ci := 21) rfl (fun y0 => met_J5_append_3 K y0 (35 : Int32)) q1402 q102 q1399 q1400 (zq q1401) hd_J5_append_3 (by decide) (by decide) rfl (by simp [zcat_rf, zcat_i, zcat_j, zcat_f, zcat_d]) (fun z hz => by cases hz) dX1_tellQueue_70 (fun r17 => ?_)
  show zS _ 73 _ [va_rf r17] _
  refine zs_aload hE 3 rfl dX1_tellQueue_73 ?_
  refine zs_getI hE (ci := 39) (k := 0) rfl (by decide) in_X7 (Or.inr ⟨_, zn q1934 rfl⟩) (Or.inl rfl) dX1_tellQueue_75 (fun v18 => ?_)
  refine zs_callV hE (As := [.int v18]) (encA := encR) (ci := 21) rfl (fun y0 => met_J5_append_2 K y0 v18) q1227 q102 q1397 q1225 (zq q1226) hd_J5_append_2 (by decide) (by decide) rfl (by simp [zcat_rf, zcat_i, zcat_j, zcat_f, zcat_d]) (fun z hz => by cases hz) dX1_tellQueue_78 (fun r19 => ?_)
  show zS _ 81 _ [va_rf r19] _
  refine zs_bipush hE (v := (47 : Int32)) (by decide) dX1_tellQueue_81 ?_
  refine zs_callV hE (As := [.int (47 : Int32)]) (encA := encR) (ci := 21) rfl (fun y0 => met_J5_append_3 K y0 (47 : Int32)) q1402 q102 q1399 q1400 (zq q1401) hd_J5_append_3 (by decide) (by decide) rfl (by simp [zcat_rf, zcat_i, zcat_j, zcat_f, zcat_d]) (fun z hz => by cases hz) dX1_tellQueue_83 (fun r20 => ?_)
  show zS _ 86 _ [va_rf r20] _
  refine zs_aload hE 3 rfl dX1_tellQueue_86 ?_
  refine zs_getI hE (ci := 39) (k := 3) rfl (by decide) in_X7 (Or.inr ⟨_, zn q1941 rfl⟩) (Or.inl rfl) dX1_tellQueue_88 (fun v21 => ?_)
  refine zs_callV hE (As := [.int v21]) (encA := encR) (ci := 21) rfl (fun y0 => met_J5_append_2 K y0 v21) q1227 q102 q1397 q1225 (zq q1226) hd_J5_append_2 (by decide) (by decide) rfl (by simp [zcat_rf, zcat_i, zcat_j, zcat_f, zcat_d]) (fun z hz => by cases hz) dX1_tellQueue_91 (fun r22 => ?_)
  show zS _ 94 _ [va_rf r22] _
  refine zs_pop hE (zcat_rf _) dX1_tellQueue_94 ?_
  refine zs_goto hE 22 (by decide) dX1_tellQueue_95 ?_
  refine zs_sub [0, 1, 2] rfl ?_
  exact hs22 ()
theorem sm_X1_tellQueue_B22 {x : ZX Int32} {K : ZK} (hE : zE x K cX1_tellQueue RX1 "tellQueue" 5 8 250 encI (Option.some Jvm.ClassFile.FieldType.int) []) (x0 : Nat) (x2 : Option Nat) (x3 : Option Nat) (self22 : Unit → ZP Int32) (hs22 : ∀ v : Unit, zS x 22 [(0, va_rf (some x0)), (2, va_rf x2), (3, va_rf x3)] [] (self22 v)) : zS x 22 [(0, va_rf (some x0)), (2, va_rf x2), (3, va_rf x3)] [] (s_X1_tellQueue_B22 K x0 x2 x3 self22) := by
  unfold s_X1_tellQueue_B22
  refine zs_aload_n hE 2 rfl rfl dX1_tellQueue_22 ?_
  refine zs_callF hE (xx := ⟨"java/util/Iterator", "hasNext", "()Z"⟩) (As := []) (encA := encI) (ci := 5) rfl (fun y0 => met_J23_hasNext K y0) q869 q124 q1389 (List.mem_of_getElem? (i := 3) rfl) q867 q865 hdx_h2 (by decide) (by decide) rfl (by simp [zcat_rf, zcat_i, zcat_j, zcat_f, zcat_d]) (fun z hz => by cases hz) dX1_tellQueue_23 (fun r5 => ?_)
  show zS _ 28 _ [.int r5] _
  refine zs_if_eq hE 98 (by decide) dX1_tellQueue_28 ?_ ?_
  · refine zs_aload_n hE 0 rfl rfl dX1_tellQueue_98 ?_
    refine zs_getR hE (ci := 24) (k := 4) rfl (by decide) in_X1 (Or.inl q395) (Or.inl rfl) dX1_tellQueue_99 (fun v6 => ?_)
    refine zs_aload_n hE 1 rfl rfl dX1_tellQueue_102 ?_
    refine zs_getR hE (ci := 37) (k := 1) rfl (by decide) in_X5 (Or.inr ⟨_, zn q1555 rfl⟩) (Or.inl rfl) dX1_tellQueue_103 (fun v7 => ?_)
    refine zs_callV hE (As := []) (encA := encI) (ci := 11) rfl (fun y0 => met_J31_isEmpty K y0) q2019 q133 q2016 q2017 (zq q2018) hd_J31_isEmpty (by decide) (by decide) rfl (by simp [zcat_rf, zcat_i, zcat_j, zcat_f, zcat_d]) (fun z hz => by cases hz) dX1_tellQueue_106 (fun r8 => ?_)
    show zS _ 109 _ [.int r8, va_rf v6] _
    refine zs_if_eq hE 118 (by decide) dX1_tellQueue_109 ?_ ?_
    · refine zs_ldcwS hE (i := 11) (by simp [zSR]; first | done | exact ⟨rfl, rfl⟩) dX1_tellQueue_118 ?_
      refine zs_sub [0] rfl ?_
      exact sm_X1_tellQueue_J121 hE x0 (some (K.1 11)) v6
    · refine zs_ldcwS hE (i := 14) (by simp [zSR]; first | done | exact ⟨rfl, rfl⟩) dX1_tellQueue_112 ?_
      refine zs_goto hE 121 (by decide) dX1_tellQueue_115 ?_
      refine zs_sub [0] rfl ?_
      exact sm_X1_tellQueue_J121 hE x0 (some (K.1 14)) v6
  · refine zs_aload_n hE 2 rfl rfl dX1_tellQueue_31 ?_
    refine zs_callF hE (xx := ⟨"java/util/Iterator", "next", "()Ljava/lang/Object;"⟩) (As := []) (encA := encR) (ci := 5) rfl (fun y0 => met_J23_next K y0) q1045 q124 q1391 (List.mem_of_getElem? (i := 4) rfl) q1043 q1041 hdx_h4 (by decide) (by decide) rfl (by simp [zcat_rf, zcat_i, zcat_j, zcat_f, zcat_d]) (fun z hz => by cases hz) dX1_tellQueue_32 (fun r12 => ?_)
    show zS _ 37 _ [va_rf r12] _
    refine zs_cast hE q1925 (zc1 rfl (Or.inl rfl)) dX1_tellQueue_37 ?_
    refine zs_astore hE (i := 4) (by decide) (zcat_rf x3) (lv' := [(0, va_rf (some x0)), (2, va_rf x2), (3, va_rf x3)]) rfl dX1_tellQueue_40 ?_
    refine zs_aload_n hE 1 rfl rfl dX1_tellQueue_42 ?_
    refine zs_getR hE (ci := 24) (k := 4) rfl (by decide) in_X1 (Or.inl q395) (Or.inl rfl) dX1_tellQueue_43 (fun v13 => ?_)
    refine zs_aload_n hE 1 rfl rfl dX1_tellQueue_46 ?_
    refine zs_getR hE (ci := 24) (k := 4) rfl (by decide) in_X1 (Or.inl q395) (Or.inl rfl) dX1_tellQueue_47 (fun v14 => ?_)
    refine zs_callV hE (As := []) (encA := encI) (ci := 21) rfl (fun y0 => met_J5_length K y0) q1272 q102 q1393 q1271 (zq q3297) hd_J5_length (by decide) (by decide) rfl (by simp [zcat_rf, zcat_i, zcat_j, zcat_f, zcat_d]) (fun z hz => by cases hz) dX1_tellQueue_50 (fun r15 => ?_)
    show zS _ 53 _ [.int r15, va_rf v13] _
    refine zs_if_le hE 62 (by decide) dX1_tellQueue_53 ?_ ?_
    · refine zs_ldcwS hE (i := 11) (by simp [zSR]; first | done | exact ⟨rfl, rfl⟩) dX1_tellQueue_62 ?_
      refine zs_sub [1, 2, 3, 0] rfl ?_
      exact sm_X1_tellQueue_J65 hE x0 x2 x3 r12 (some (K.1 11)) v13 self22 hs22
    · refine zs_ldcwS hE (i := 10) (by simp [zSR]; first | done | exact ⟨rfl, rfl⟩) dX1_tellQueue_56 ?_
      refine zs_goto hE 65 (by decide) dX1_tellQueue_59 ?_
      refine zs_sub [1, 2, 3, 0] rfl ?_
      exact sm_X1_tellQueue_J65 hE x0 x2 x3 r12 (some (K.1 10)) v13 self22 hs22
theorem sm_X1_tellQueue_L22 {x : ZX Int32} {K : ZK} (hE : zE x K cX1_tellQueue RX1 "tellQueue" 5 8 250 encI (Option.some Jvm.ClassFile.FieldType.int) []) (x0 : Nat) (x2 : Option Nat) (x3 : Option Nat) (v : Unit) : zS x 22 [(0, va_rf (some x0)), (2, va_rf x2), (3, va_rf x3)] [] (s_X1_tellQueue_L22 K x0 x2 x3 v) := by
  unfold s_X1_tellQueue_L22
  exact zs_loop (lvf := fun v => [(0, va_rf (some x0)), (2, va_rf x2), (3, va_rf x3)]) (fun self22 hs22 v => sm_X1_tellQueue_B22 hE x0 x2 x3 self22 hs22) v
theorem sm_X1_tellQueue {x : ZX Int32} {K : ZK} (hE : zE x K cX1_tellQueue RX1 "tellQueue" 5 8 250 encI (Option.some Jvm.ClassFile.FieldType.int) []) (this : Nat) (a1 : Int32) : zS x 0 [(0, va_rf (some this)), (1, .int a1)] [] (s_X1_tellQueue K this a1) := by
  unfold s_X1_tellQueue
  refine zs_aload_n hE 0 rfl rfl dX1_tellQueue_0 ?_
  refine zs_iload_n hE 1 rfl rfl dX1_tellQueue_1 ?_
  refine zs_callV hE (As := [.int a1]) (encA := encR) (ci := 24) rfl (fun y0 => met_X1_station0 K y0 a1) q2172 q95 q2169 q2171 (zq qs28) hd_X1_station0 (by decide) (by decide) rfl (by simp [zcat_rf, zcat_i, zcat_j, zcat_f, zcat_d]) (fun z hz => by cases hz) dX1_tellQueue_2 (fun r1 => ?_)
  show zS _ 5 _ [va_rf r1] _
  refine zs_astore_n hE (i := 2) (q := 2) rfl (by decide) (rfl) (lv' := [(0, va_rf (some this)), (1, .int a1)]) rfl dX1_tellQueue_5 ?_
  refine zs_aload_n hE 1 rfl rfl dX1_tellQueue_6 ?_
  refine zs_getR hE (ci := 24) (k := 4) rfl (by decide) in_X1 (Or.inl q395) (Or.inl rfl) dX1_tellQueue_7 (fun v2 => ?_)
  refine zs_iconst hE (v := (0 : Int32)) (by decide) dX1_tellQueue_10 ?_
  refine zs_callV hE (As := [.int (0 : Int32)]) (encA := encV) (ci := 21) rfl (fun y0 => met_J5_setLength K y0 (0 : Int32)) q1118 q102 q1115 q1116 (zq q1117) hd_J5_setLength (by decide) (by decide) rfl (by simp [zcat_rf, zcat_i, zcat_j, zcat_f, zcat_d]) (fun z hz => by cases hz) dX1_tellQueue_11 (fun _ => ?_)
  show zS _ 14 _ [] _
  refine zs_aload_n hE 0 rfl rfl dX1_tellQueue_14 ?_
  refine zs_getR hE (ci := 37) (k := 1) rfl (by decide) in_X5 (Or.inr ⟨_, zn q1555 rfl⟩) (Or.inl rfl) dX1_tellQueue_15 (fun v3 => ?_)
  refine zs_callV hE (As := []) (encA := encR) (ci := 11) rfl (fun y0 => met_J31_iterator K y0) q479 q133 q2199 q477 (zq q3299) hd_J31_iterator (by decide) (by decide) rfl (by simp [zcat_rf, zcat_i, zcat_j, zcat_f, zcat_d]) (fun z hz => by cases hz) dX1_tellQueue_18 (fun r4 => ?_)
  show zS _ 21 _ [va_rf r4] _
  refine zs_astore_n hE (i := 3) (q := 3) rfl (by decide) (zcat_rf r1) (lv' := [(2, va_rf r1), (0, va_rf (some this)), (1, .int a1)]) rfl dX1_tellQueue_21 ?_
  refine zs_sub [2, 1, 0] rfl ?_
  exact sm_X1_tellQueue_L22 hE this r1 r4 ()
theorem hd_X1_tellQueue : (yX1_tellQueue).cls ≠ "java/lang/invoke/MethodHandle" ∧ (yX1_tellQueue).cls ≠ "java/lang/invoke/VarHandle" ∧ (parseMethodDescriptor (yX1_tellQueue).desc).map (fun d => d.parameters.length) = some 1 := by decide +kernel
theorem met_X1_tellQueue (K : ZK) (this : Nat) (a1 : Int32) : zMeth K yX1_tellQueue (zws yX1_tellQueue cX1_tellQueue 5 (Option.some Jvm.ClassFile.FieldType.int)) 8 250 [.ref this, .int a1] encI (s_X1_tellQueue K this a1) :=
  fun l G hl hK => zmet_of hl hK (by decide +kernel) rfl rfl (by simp [zsl_nil, zsl_rf, zsl_r, zsl_i, zsl_j, zsl_f, zsl_d]) (fun x hE => by simp only [zla_nil, zla_rf, zla_r, zla_i, zla_j, zla_f, zla_d, Nat.reduceAdd]; exact sm_X1_tellQueue hE this a1)
theorem sm_X0_tellQueue {x : ZX Int32} {K : ZK} (hE : zE x K cX0_tellQueue RX0 "tellQueue" 4 9 274 encI (Option.some Jvm.ClassFile.FieldType.int) (tableOf [((0 : Nat), (9 : Nat), (12 : Nat), (52 : Nat))])) (a1 : Option Nat) (a2 : Int32) (a3 : Option Nat) : zS x 0 [(0, va_rf a1), (1, .int a2), (2, va_rf a3)] [] (s_X0_tellQueue K a1 a2 a3) := by
  unfold s_X0_tellQueue
  refine zs_aload_n hE 2 rfl rfl dX0_tellQueue_0 ?_
  refine zs_iconst hE (v := (0 : Int32)) (by decide) dX0_tellQueue_1 ?_
  refine zs_aload_n hE 0 rfl rfl dX0_tellQueue_2 ?_
  refine zs_iload_n hE 1 rfl rfl dX0_tellQueue_3 ?_
  refine zs_callVT hE (As := [.int a2]) (encA := encI) (ci := 24) rfl (fun y0 => met_X1_tellQueue K y0 a2) q2733 q95 q2730 q2731 (zq q2732) hd_X1_tellQueue (by decide) (by decide) rfl (by simp [zcat_rf, zcat_i, zcat_j, zcat_f, zcat_d]) (zhl_cons (zhnd (tableOf []) (tableOf []) ⟨0, 9, 12, 52⟩ rfl (fun w hw => by cases hw) (by decide) (by decide) q2162 (zn q1987 rfl) (fun q1 => ?_)) zhl_nil) dX0_tellQueue_4 (fun r2 => ?_)
  · have hE := zE_q q1 2 hE
    have hq := zqin_q (x := x) q1 2
    refine zs_astore_n hE (i := 3) (q := 3) rfl (by decide) (zcat_rf a3) (lv' := [(0, va_rf a1), (1, .int a2), (2, va_rf a3)]) rfl dX0_tellQueue_12 ?_
    refine zs_iconst hE (v := (1 : Int32)) (by decide) dX0_tellQueue_13 ?_
    exact zs_iret hE dX0_tellQueue_14
  · show zS _ 7 _ [.int r2, .int (0 : Int32), va_rf a3] _
    refine zs_i2l hE dX0_tellQueue_7 ?_
    refine zs_astJ hE dX0_tellQueue_8 ?_
    refine zs_goto hE 15 (by decide) dX0_tellQueue_9 ?_
    refine zs_iconst hE (v := (0 : Int32)) (by decide) dX0_tellQueue_15 ?_
    exact zs_iret hE dX0_tellQueue_16
theorem hd_X0_tellQueue : (yX0_tellQueue).cls ≠ "java/lang/invoke/MethodHandle" ∧ (yX0_tellQueue).cls ≠ "java/lang/invoke/VarHandle" ∧ (parseMethodDescriptor (yX0_tellQueue).desc).map (fun d => d.parameters.length) = some 3 := by decide +kernel
theorem met_X0_tellQueue (K : ZK) (a1 : Option Nat) (a2 : Int32) (a3 : Option Nat) : zMeth K yX0_tellQueue (zwsW yX0_tellQueue cX0_tellQueue 4 (Option.some Jvm.ClassFile.FieldType.int) [((0 : Nat), (9 : Nat), (12 : Nat), (52 : Nat))]) 9 274 [va_rf a1, .int a2, va_rf a3] encI (s_X0_tellQueue K a1 a2 a3) :=
  fun l G hl hK => zmet_ofH hl hK (by decide +kernel) rfl rfl (by simp [zsl_nil, zsl_rf, zsl_r, zsl_i, zsl_j, zsl_f, zsl_d]) (fun x hE => by simp only [zla_nil, zla_rf, zla_r, zla_i, zla_j, zla_f, zla_d, Nat.reduceAdd]; exact sm_X0_tellQueue hE a1 a2 a3)
theorem sm_J4_charAt__J5 {x : ZX Int32} {K : ZK} (hE : zE x K cJ4_charAt RJ4 "charAt" 5 3 143 encI (Option.some Jvm.ClassFile.FieldType.char) []) (this : Nat) (a1 : Int32) : zS x 0 [(0, va_rf (some this)), (1, .int a1)] [] (s_J4_charAt__J5 K this a1) := by
  unfold s_J4_charAt__J5
  refine zs_aload_n hE 0 rfl rfl dJ4_charAt_0 ?_
  refine zs_getI hE (ci := 21) (k := 1) rfl (by decide) in_J5 (Or.inl q377) (Or.inl rfl) dJ4_charAt_1 (fun v1 => ?_)
  refine zs_istore_n hE (i := 2) (q := 2) rfl (by decide) (rfl) (lv' := [(0, va_rf (some this)), (1, .int a1)]) rfl dJ4_charAt_4 ?_
  refine zs_aload_n hE 1 rfl rfl dJ4_charAt_5 ?_
  refine zs_getR hE (ci := 21) (k := 0) rfl (by decide) in_J5 (Or.inl q376) (Or.inl rfl) dJ4_charAt_6 (fun v2 => ?_)
  refine zs_astore_n hE (i := 3) (q := 3) rfl (by decide) (rfl) (lv' := [(2, .int v1), (0, va_rf (some this)), (1, .int a1)]) rfl dJ4_charAt_9 ?_
  refine zs_aload_n hE 2 rfl rfl dJ4_charAt_10 ?_
  refine zs_getI hE (ci := 21) (k := 3) rfl (by decide) in_J5 (Or.inl q380) (Or.inl rfl) dJ4_charAt_11 (fun v3 => ?_)
  refine zs_aload_n hE 0 rfl rfl dJ4_charAt_14 ?_
  refine zs_len hE (t := 3) rfl dJ4_charAt_15 (fun v4 => ?_)
  refine zs_iload_n hE 1 rfl rfl dJ4_charAt_16 ?_
  refine zs_ishr hE dJ4_charAt_17 ?_
  refine zs_callS hE (As := [.int v3, .int (v4 >>> (v1 &&& 31))]) (encA := encI) (met_J16_min K v3 (v4 >>> (v1 &&& 31))) q568 q116 q2552 q567 hd_J16_min (by decide) (by decide) rfl (by simp [zcat_rf, zcat_i, zcat_j, zcat_f, zcat_d]) (fun z hz => by cases hz) dJ4_charAt_18 (fun r5 => ?_)
  show zS _ 21 _ [.int r5] _
  refine zs_istore hE (i := 4) (by decide) (zcat_rf v2) (lv' := [(3, va_rf v2), (2, .int v1), (0, va_rf (some this)), (1, .int a1)]) rfl dJ4_charAt_21 ?_
  refine zs_iload_n hE 4 rfl rfl dJ4_charAt_23 ?_
  refine zs_iload hE 0 rfl dJ4_charAt_24 ?_
  refine zs_callS hE (As := [.int a1, .int r5]) (encA := encV) (met_J6_checkIndex K a1 r5) q1417 q103 q2553 q1416 hd_J6_checkIndex (by decide) (by decide) rfl (by simp [zcat_rf, zcat_i, zcat_j, zcat_f, zcat_d]) (fun z hz => by cases hz) dJ4_charAt_26 (fun _ => ?_)
  show zS _ 29 _ [] _
  refine zs_iload_n hE 2 rfl rfl dJ4_charAt_29 ?_
  refine zs_if_ne hE 42 (by decide) dJ4_charAt_30 ?_ ?_
  · refine zs_aload_n hE 1 rfl rfl dJ4_charAt_33 ?_
    refine zs_iload_n hE 4 rfl rfl dJ4_charAt_34 ?_
    refine zs_aldB hE dJ4_charAt_35 (fun v6 => ?_)
    refine zs_sipush hE (v := (255 : Int32)) (by decide) dJ4_charAt_36 ?_
    refine zs_iand hE dJ4_charAt_39 ?_
    refine zs_i2c hE dJ4_charAt_40 ?_
    exact zs_zretA hE dJ4_charAt_41
  · refine zs_aload_n hE 1 rfl rfl dJ4_charAt_42 ?_
    refine zs_iload_n hE 4 rfl rfl dJ4_charAt_43 ?_
    exact zs_bad
theorem hd_J4_charAt__J5 : (yJ4_charAt).cls ≠ "java/lang/invoke/MethodHandle" ∧ (yJ4_charAt).cls ≠ "java/lang/invoke/VarHandle" ∧ (parseMethodDescriptor (yJ4_charAt).desc).map (fun d => d.parameters.length) = some 1 := by decide +kernel
theorem met_J4_charAt__J5 (K : ZK) (this : Nat) (a1 : Int32) : zMeth K yJ4_charAt (zws yJ4_charAt cJ4_charAt 5 (Option.some Jvm.ClassFile.FieldType.char)) 3 143 [.ref this, .int a1] encI (s_J4_charAt__J5 K this a1) :=
  fun l G hl hK => zmet_of hl hK (by decide +kernel) rfl rfl (by simp [zsl_nil, zsl_rf, zsl_r, zsl_i, zsl_j, zsl_f, zsl_d]) (fun x hE => by simp only [zla_nil, zla_rf, zla_r, zla_i, zla_j, zla_f, zla_d, Nat.reduceAdd]; exact sm_J4_charAt__J5 hE this a1)
theorem sm_J5_charAt {x : ZX Int32} {K : ZK} (hE : zE x K cJ5_charAt RJ5 "charAt" 2 4 167 encI (Option.some Jvm.ClassFile.FieldType.char) []) (this : Nat) (a1 : Int32) : zS x 0 [(0, va_rf (some this)), (1, .int a1)] [] (s_J5_charAt K this a1) := by
  unfold s_J5_charAt
  refine zs_aload_n hE 0 rfl rfl dJ5_charAt_0 ?_
  refine zs_iload_n hE 1 rfl rfl dJ5_charAt_1 ?_
  refine zs_callSU hE (As := [.int a1]) (encA := encI) (ci := 21) rfl (fun y0 => met_J4_charAt__J5 K y0 a1) q2551 q101 q2549 q3300 q389 q2550 ⟨by decide, (hd_J4_charAt__J5).2.2⟩ (by decide) (by decide) rfl (by simp [zcat_rf, zcat_i, zcat_j, zcat_f, zcat_d]) (fun z hz => by cases hz) dJ5_charAt_2 (fun r1 => ?_)
  show zS _ 5 _ [.int r1] _
  exact zs_zretA hE dJ5_charAt_5
theorem hd_J5_charAt : (yJ5_charAt).cls ≠ "java/lang/invoke/MethodHandle" ∧ (yJ5_charAt).cls ≠ "java/lang/invoke/VarHandle" ∧ (parseMethodDescriptor (yJ5_charAt).desc).map (fun d => d.parameters.length) = some 1 := by decide +kernel
theorem met_J5_charAt (K : ZK) (this : Nat) (a1 : Int32) : zMeth K yJ5_charAt (zws yJ5_charAt cJ5_charAt 2 (Option.some Jvm.ClassFile.FieldType.char)) 4 167 [.ref this, .int a1] encI (s_J5_charAt K this a1) :=
  fun l G hl hK => zmet_of hl hK (by decide +kernel) rfl rfl (by simp [zsl_nil, zsl_rf, zsl_r, zsl_i, zsl_j, zsl_f, zsl_d]) (fun x hE => by simp only [zla_nil, zla_rf, zla_r, zla_i, zla_j, zla_f, zla_d, Nat.reduceAdd]; exact sm_J5_charAt hE this a1)
theorem sm_X1_character {x : ZX Int32} {K : ZK} (hE : zE x K cX1_character RX1 "character" 2 7 188 encI (Option.some Jvm.ClassFile.FieldType.char) []) (this : Nat) (a1 : Int32) : zS x 0 [(0, va_rf (some this)), (1, .int a1)] [] (s_X1_character K this a1) := by
  unfold s_X1_character
  refine zs_iload_n hE 1 rfl rfl dX1_character_0 ?_
  refine zs_iconst hE (v := (0 : Int32)) (by decide) dX1_character_1 ?_
  refine zs_aload_n hE 0 rfl rfl dX1_character_2 ?_
  refine zs_getR hE (ci := 24) (k := 4) rfl (by decide) in_X1 (Or.inl q395) (Or.inl rfl) dX1_character_3 (fun v1 => ?_)
  refine zs_callV hE (As := []) (encA := encI) (ci := 21) rfl (fun y0 => met_J5_length K y0) q1272 q102 q1393 q1271 (zq q3297) hd_J5_length (by decide) (by decide) rfl (by simp [zcat_rf, zcat_i, zcat_j, zcat_f, zcat_d]) (fun z hz => by cases hz) dX1_character_6 (fun r2 => ?_)
  show zS _ 9 _ [.int r2, .int (0 : Int32), .int a1] _
  refine zs_iconst hE (v := (1 : Int32)) (by decide) dX1_character_9 ?_
  refine zs_isub hE dX1_character_10 ?_
  refine zs_callS hE (As := [.int a1, .int (0 : Int32), .int (r2 - (1 : Int32))]) (encA := encI) (met_X1_isBetween K a1 (0 : Int32) (r2 - (1 : Int32))) q1776 q95 q1774 q1775 hd_X1_isBetween (by decide) (by decide) rfl (by simp [zcat_rf, zcat_i, zcat_j, zcat_f, zcat_d]) (fun z hz => by cases hz) dX1_character_11 (fun r3 => ?_)
  show zS _ 14 _ [.int r3] _
  refine zs_callS hE (As := [.int r3]) (encA := encV) (met_X1_checkIndex K r3) q2175 q95 q2173 q2174 hd_X1_checkIndex (by decide) (by decide) rfl (by simp [zcat_rf, zcat_i, zcat_j, zcat_f, zcat_d]) (fun z hz => by cases hz) dX1_character_14 (fun _ => ?_)
  show zS _ 17 _ [] _
  refine zs_aload_n hE 0 rfl rfl dX1_character_17 ?_
  refine zs_getR hE (ci := 24) (k := 4) rfl (by decide) in_X1 (Or.inl q395) (Or.inl rfl) dX1_character_18 (fun v4 => ?_)
  refine zs_iload_n hE 1 rfl rfl dX1_character_21 ?_
  refine zs_callV hE (As := [.int a1]) (encA := encI) (ci := 21) rfl (fun y0 => met_J5_charAt K y0 a1) q2548 q102 q2742 q2546 (zq q3301) hd_J5_charAt (by decide) (by decide) rfl (by simp [zcat_rf, zcat_i, zcat_j, zcat_f, zcat_d]) (fun z hz => by cases hz) dX1_character_22 (fun r5 => ?_)
  show zS _ 25 _ [.int r5] _
  exact zs_zretA hE dX1_character_25
theorem hd_X1_character : (yX1_character).cls ≠ "java/lang/invoke/MethodHandle" ∧ (yX1_character).cls ≠ "java/lang/invoke/VarHandle" ∧ (parseMethodDescriptor (yX1_character).desc).map (fun d => d.parameters.length) = some 1 := by decide +kernel
theorem met_X1_character (K : ZK) (this : Nat) (a1 : Int32) : zMeth K yX1_character (zws yX1_character cX1_character 2 (Option.some Jvm.ClassFile.FieldType.char)) 7 188 [.ref this, .int a1] encI (s_X1_character K this a1) :=
  fun l G hl hK => zmet_of hl hK (by decide +kernel) rfl rfl (by simp [zsl_nil, zsl_rf, zsl_r, zsl_i, zsl_j, zsl_f, zsl_d]) (fun x hE => by simp only [zla_nil, zla_rf, zla_r, zla_i, zla_j, zla_f, zla_d, Nat.reduceAdd]; exact sm_X1_character hE this a1)
theorem sm_X0_character {x : ZX Int32} {K : ZK} (hE : zE x K cX0_character RX0 "character" 4 8 209 encI (Option.some Jvm.ClassFile.FieldType.int) (tableOf [((0 : Nat), (9 : Nat), (12 : Nat), (52 : Nat))])) (a1 : Option Nat) (a2 : Int32) (a3 : Option Nat) : zS x 0 [(0, va_rf a1), (1, .int a2), (2, va_rf a3)] [] (s_X0_character K a1 a2 a3) := by
  unfold s_X0_character
  refine zs_aload_n hE 2 rfl rfl dX0_character_0 ?_
  refine zs_iconst hE (v := (0 : Int32)) (by decide) dX0_character_1 ?_
  refine zs_aload_n hE 0 rfl rfl dX0_character_2 ?_
  refine zs_iload_n hE 1 rfl rfl dX0_character_3 ?_
  refine zs_callVT hE (As := [.int a2]) (encA := encI) (ci := 24) rfl (fun y0 => met_X1_character K y0 a2) q2741 q95 q2738 q2739 (zq q2740) hd_X1_character (by decide) (by decide) rfl (by simp [zcat_rf, zcat_i, zcat_j, zcat_f, zcat_d]) (zhl_cons (zhnd (tableOf []) (tableOf []) ⟨0, 9, 12, 52⟩ rfl (fun w hw => by cases hw) (by decide) (by decide) q2162 (zn q1987 rfl) (fun q1 => ?_)) zhl_nil) dX0_character_4 (fun r2 => ?_)
  · have hE := zE_q q1 2 hE
    have hq := zqin_q (x := x) q1 2
    refine zs_astore_n hE (i := 3) (q := 3) rfl (by decide) (zcat_rf a3) (lv' := [(0, va_rf a1), (1, .int a2), (2, va_rf a3)]) rfl dX0_character_12 ?_
    refine zs_iconst hE (v := (1 : Int32)) (by decide) dX0_character_13 ?_
    exact zs_iret hE dX0_character_14
  · show zS _ 7 _ [.int r2, .int (0 : Int32), va_rf a3] _
    refine zs_i2l hE dX0_character_7 ?_
    refine zs_astJ hE dX0_character_8 ?_
    refine zs_goto hE 15 (by decide) dX0_character_9 ?_
    refine zs_iconst hE (v := (0 : Int32)) (by decide) dX0_character_15 ?_
    exact zs_iret hE dX0_character_16
theorem hd_X0_character : (yX0_character).cls ≠ "java/lang/invoke/MethodHandle" ∧ (yX0_character).cls ≠ "java/lang/invoke/VarHandle" ∧ (parseMethodDescriptor (yX0_character).desc).map (fun d => d.parameters.length) = some 3 := by decide +kernel
theorem met_X0_character (K : ZK) (a1 : Option Nat) (a2 : Int32) (a3 : Option Nat) : zMeth K yX0_character (zwsW yX0_character cX0_character 4 (Option.some Jvm.ClassFile.FieldType.int) [((0 : Nat), (9 : Nat), (12 : Nat), (52 : Nat))]) 8 209 [va_rf a1, .int a2, va_rf a3] encI (s_X0_character K a1 a2 a3) :=
  fun l G hl hK => zmet_ofH hl hK (by decide +kernel) rfl rfl (by simp [zsl_nil, zsl_rf, zsl_r, zsl_i, zsl_j, zsl_f, zsl_d]) (fun x hE => by simp only [zla_nil, zla_rf, zla_r, zla_i, zla_j, zla_f, zla_d, Nat.reduceAdd]; exact sm_X0_character hE a1 a2 a3)
theorem sm_X1_account {x : ZX Int32} {K : ZK} (hE : zE x K cX1_account RX1 "account" 2 7 142 encI (Option.some Jvm.ClassFile.FieldType.int) []) (this : Nat) (a1 : Int32) : zS x 0 [(0, va_rf (some this)), (1, .int a1)] [] (s_X1_account K this a1) := by
  unfold s_X1_account
  refine zs_iload_n hE 1 rfl rfl dX1_account_0 ?_
  refine zs_iconst hE (v := (0 : Int32)) (by decide) dX1_account_1 ?_
  refine zs_bipush hE (v := (19 : Int32)) (by decide) dX1_account_2 ?_
  refine zs_callS hE (As := [.int a1, .int (0 : Int32), .int (19 : Int32)]) (encA := encI) (met_X1_isBetween K a1 (0 : Int32) (19 : Int32)) q1776 q95 q1774 q1775 hd_X1_isBetween (by decide) (by decide) rfl (by simp [zcat_rf, zcat_i, zcat_j, zcat_f, zcat_d]) (fun z hz => by cases hz) dX1_account_4 (fun r1 => ?_)
  show zS _ 7 _ [.int r1] _
  refine zs_callS hE (As := [.int r1]) (encA := encV) (met_X1_check K r1) q2140 q95 q2138 q2139 hd_X1_check (by decide) (by decide) rfl (by simp [zcat_rf, zcat_i, zcat_j, zcat_f, zcat_d]) (fun z hz => by cases hz) dX1_account_7 (fun _ => ?_)
  show zS _ 10 _ [] _
  refine zs_iload_n hE 1 rfl rfl dX1_account_10 ?_
  refine zs_tsw hE (offl := [89, 97, 108, 116, 124, 132, 140, 148, 156, 164, 172, 180, 188, 196, 204, 212, 220, 228, 236]) rfl (by decide) dX1_account_11 (tgt := 255) (by decide) ⟨⟨by decide, 100, by decide, ?_⟩, ⟨by decide, 108, by decide, ?_⟩, ⟨by decide, 119, by decide, ?_⟩, ⟨by decide, 127, by decide, ?_⟩, ⟨by decide, 135, by decide, ?_⟩, ⟨by decide, 143, by decide, ?_⟩, ⟨by decide, 151, by decide, ?_⟩, ⟨by decide, 159, by decide, ?_⟩, ⟨by decide, 167, by decide, ?_⟩, ⟨by decide, 175, by decide, ?_⟩, ⟨by decide, 183, by decide, ?_⟩, ⟨by decide, 191, by decide, ?_⟩, ⟨by decide, 199, by decide, ?_⟩, ⟨by decide, 207, by decide, ?_⟩, ⟨by decide, 215, by decide, ?_⟩, ⟨by decide, 223, by decide, ?_⟩, ⟨by decide, 231, by decide, ?_⟩, ⟨by decide, 239, by decide, ?_⟩, ⟨by decide, 247, by decide, ?_⟩, trivial⟩ ?_
  · refine zs_aload_n hE 0 rfl rfl dX1_account_100 ?_
    refine zs_getR hE (ci := 24) (k := 0) rfl (by decide) in_X1 (Or.inl q391) (Or.inl rfl) dX1_account_101 (fun v2 => ?_)
    refine zs_getI hE (ci := 34) (k := 8) rfl (by decide) in_X2 (Or.inr ⟨_, zn q241 rfl⟩) (Or.inl rfl) dX1_account_104 (fun v3 => ?_)
    exact zs_iret hE dX1_account_107
  · refine zs_aload_n hE 0 rfl rfl dX1_account_108 ?_
    refine zs_getR hE (ci := 24) (k := 0) rfl (by decide) in_X1 (Or.inl q391) (Or.inl rfl) dX1_account_109 (fun v4 => ?_)
    refine zs_getR hE (ci := 34) (k := 0) rfl (by decide) in_X2 (Or.inr ⟨_, zn q218 rfl⟩) (Or.inl rfl) dX1_account_112 (fun v5 => ?_)
    refine zs_callV hE (As := []) (encA := encI) (ci := 0) rfl (fun y0 => met_J1_size K y0) q857 q98 q1824 q855 (zq q856) hd_J1_size (by decide) (by decide) rfl (by simp [zcat_rf, zcat_i, zcat_j, zcat_f, zcat_d]) (fun z hz => by cases hz) dX1_account_115 (fun r6 => ?_)
    show zS _ 118 _ [.int r6] _
    exact zs_iret hE dX1_account_118
  · refine zs_aload_n hE 0 rfl rfl dX1_account_119 ?_
    refine zs_getR hE (ci := 24) (k := 0) rfl (by decide) in_X1 (Or.inl q391) (Or.inl rfl) dX1_account_120 (fun v7 => ?_)
    refine zs_getI hE (ci := 34) (k := 6) rfl (by decide) in_X2 (Or.inr ⟨_, zn q235 rfl⟩) (Or.inl rfl) dX1_account_123 (fun v8 => ?_)
    exact zs_iret hE dX1_account_126
  · refine zs_aload_n hE 0 rfl rfl dX1_account_127 ?_
    refine zs_getR hE (ci := 24) (k := 0) rfl (by decide) in_X1 (Or.inl q391) (Or.inl rfl) dX1_account_128 (fun v9 => ?_)
    refine zs_getI hE (ci := 34) (k := 7) rfl (by decide) in_X2 (Or.inr ⟨_, zn q238 rfl⟩) (Or.inl rfl) dX1_account_131 (fun v10 => ?_)
    exact zs_iret hE dX1_account_134
  · refine zs_aload_n hE 0 rfl rfl dX1_account_135 ?_
    refine zs_getR hE (ci := 24) (k := 0) rfl (by decide) in_X1 (Or.inl q391) (Or.inl rfl) dX1_account_136 (fun v11 => ?_)
    refine zs_getI hE (ci := 34) (k := 9) rfl (by decide) in_X2 (Or.inr ⟨_, zn q243 rfl⟩) (Or.inl rfl) dX1_account_139 (fun v12 => ?_)
    exact zs_iret hE dX1_account_142
  · refine zs_aload_n hE 0 rfl rfl dX1_account_143 ?_
    refine zs_getR hE (ci := 24) (k := 0) rfl (by decide) in_X1 (Or.inl q391) (Or.inl rfl) dX1_account_144 (fun v13 => ?_)
    refine zs_getI hE (ci := 34) (k := 10) rfl (by decide) in_X2 (Or.inr ⟨_, zn q246 rfl⟩) (Or.inl rfl) dX1_account_147 (fun v14 => ?_)
    exact zs_iret hE dX1_account_150
  · refine zs_aload_n hE 0 rfl rfl dX1_account_151 ?_
    refine zs_getR hE (ci := 24) (k := 0) rfl (by decide) in_X1 (Or.inl q391) (Or.inl rfl) dX1_account_152 (fun v15 => ?_)
    refine zs_getI hE (ci := 34) (k := 11) rfl (by decide) in_X2 (Or.inr ⟨_, zn q249 rfl⟩) (Or.inl rfl) dX1_account_155 (fun v16 => ?_)
    exact zs_iret hE dX1_account_158
  · refine zs_aload_n hE 0 rfl rfl dX1_account_159 ?_
    refine zs_getR hE (ci := 24) (k := 0) rfl (by decide) in_X1 (Or.inl q391) (Or.inl rfl) dX1_account_160 (fun v17 => ?_)
    refine zs_getI hE (ci := 34) (k := 12) rfl (by decide) in_X2 (Or.inr ⟨_, zn q252 rfl⟩) (Or.inl rfl) dX1_account_163 (fun v18 => ?_)
    exact zs_iret hE dX1_account_166
  · refine zs_aload_n hE 0 rfl rfl dX1_account_167 ?_
    refine zs_getR hE (ci := 24) (k := 0) rfl (by decide) in_X1 (Or.inl q391) (Or.inl rfl) dX1_account_168 (fun v19 => ?_)
    refine zs_getI hE (ci := 34) (k := 13) rfl (by decide) in_X2 (Or.inr ⟨_, zn q255 rfl⟩) (Or.inl rfl) dX1_account_171 (fun v20 => ?_)
    exact zs_iret hE dX1_account_174
  · refine zs_aload_n hE 0 rfl rfl dX1_account_175 ?_
    refine zs_getR hE (ci := 24) (k := 0) rfl (by decide) in_X1 (Or.inl q391) (Or.inl rfl) dX1_account_176 (fun v21 => ?_)
    refine zs_getI hE (ci := 34) (k := 14) rfl (by decide) in_X2 (Or.inr ⟨_, zn q257 rfl⟩) (Or.inl rfl) dX1_account_179 (fun v22 => ?_)
    exact zs_iret hE dX1_account_182
  · refine zs_aload_n hE 0 rfl rfl dX1_account_183 ?_
    refine zs_getR hE (ci := 24) (k := 0) rfl (by decide) in_X1 (Or.inl q391) (Or.inl rfl) dX1_account_184 (fun v23 => ?_)
    refine zs_getI hE (ci := 34) (k := 15) rfl (by decide) in_X2 (Or.inr ⟨_, zn q259 rfl⟩) (Or.inl rfl) dX1_account_187 (fun v24 => ?_)
    exact zs_iret hE dX1_account_190
  · refine zs_aload_n hE 0 rfl rfl dX1_account_191 ?_
    refine zs_getR hE (ci := 24) (k := 0) rfl (by decide) in_X1 (Or.inl q391) (Or.inl rfl) dX1_account_192 (fun v25 => ?_)
    refine zs_getI hE (ci := 34) (k := 16) rfl (by decide) in_X2 (Or.inr ⟨_, zn q261 rfl⟩) (Or.inl rfl) dX1_account_195 (fun v26 => ?_)
    exact zs_iret hE dX1_account_198
  · refine zs_aload_n hE 0 rfl rfl dX1_account_199 ?_
    refine zs_getR hE (ci := 24) (k := 0) rfl (by decide) in_X1 (Or.inl q391) (Or.inl rfl) dX1_account_200 (fun v27 => ?_)
    refine zs_getI hE (ci := 34) (k := 17) rfl (by decide) in_X2 (Or.inr ⟨_, zn q264 rfl⟩) (Or.inl rfl) dX1_account_203 (fun v28 => ?_)
    exact zs_iret hE dX1_account_206
  · refine zs_aload_n hE 0 rfl rfl dX1_account_207 ?_
    refine zs_getR hE (ci := 24) (k := 0) rfl (by decide) in_X1 (Or.inl q391) (Or.inl rfl) dX1_account_208 (fun v29 => ?_)
    refine zs_getI hE (ci := 34) (k := 18) rfl (by decide) in_X2 (Or.inr ⟨_, zn q267 rfl⟩) (Or.inl rfl) dX1_account_211 (fun v30 => ?_)
    exact zs_iret hE dX1_account_214
  · refine zs_aload_n hE 0 rfl rfl dX1_account_215 ?_
    refine zs_getR hE (ci := 24) (k := 0) rfl (by decide) in_X1 (Or.inl q391) (Or.inl rfl) dX1_account_216 (fun v31 => ?_)
    refine zs_getI hE (ci := 34) (k := 19) rfl (by decide) in_X2 (Or.inr ⟨_, zn q270 rfl⟩) (Or.inl rfl) dX1_account_219 (fun v32 => ?_)
    exact zs_iret hE dX1_account_222
  · refine zs_aload_n hE 0 rfl rfl dX1_account_223 ?_
    refine zs_getR hE (ci := 24) (k := 0) rfl (by decide) in_X1 (Or.inl q391) (Or.inl rfl) dX1_account_224 (fun v33 => ?_)
    refine zs_getI hE (ci := 34) (k := 20) rfl (by decide) in_X2 (Or.inr ⟨_, zn q273 rfl⟩) (Or.inl rfl) dX1_account_227 (fun v34 => ?_)
    exact zs_iret hE dX1_account_230
  · refine zs_aload_n hE 0 rfl rfl dX1_account_231 ?_
    refine zs_getR hE (ci := 24) (k := 0) rfl (by decide) in_X1 (Or.inl q391) (Or.inl rfl) dX1_account_232 (fun v35 => ?_)
    refine zs_getI hE (ci := 34) (k := 21) rfl (by decide) in_X2 (Or.inr ⟨_, zn q276 rfl⟩) (Or.inl rfl) dX1_account_235 (fun v36 => ?_)
    exact zs_iret hE dX1_account_238
  · refine zs_aload_n hE 0 rfl rfl dX1_account_239 ?_
    refine zs_getR hE (ci := 24) (k := 0) rfl (by decide) in_X1 (Or.inl q391) (Or.inl rfl) dX1_account_240 (fun v37 => ?_)
    refine zs_getI hE (ci := 34) (k := 22) rfl (by decide) in_X2 (Or.inr ⟨_, zn q278 rfl⟩) (Or.inl rfl) dX1_account_243 (fun v38 => ?_)
    exact zs_iret hE dX1_account_246
  · refine zs_aload_n hE 0 rfl rfl dX1_account_247 ?_
    refine zs_getR hE (ci := 24) (k := 3) rfl (by decide) in_X1 (Or.inl q394) (Or.inl rfl) dX1_account_248 (fun v39 => ?_)
    refine zs_callV hE (As := []) (encA := encI) (ci := 21) rfl (fun y0 => met_J5_length K y0) q1272 q102 q1393 q1271 (zq q3297) hd_J5_length (by decide) (by decide) rfl (by simp [zcat_rf, zcat_i, zcat_j, zcat_f, zcat_d]) (fun z hz => by cases hz) dX1_account_251 (fun r40 => ?_)
    show zS _ 254 _ [.int r40] _
    exact zs_iret hE dX1_account_254
  · refine zs_aload_n hE 0 rfl rfl dX1_account_255 ?_
    refine zs_getR hE (ci := 24) (k := 2) rfl (by decide) in_X1 (Or.inl q393) (Or.inl rfl) dX1_account_256 (fun v41 => ?_)
    refine zs_callV hE (As := []) (encA := encI) (ci := 10) rfl (fun y0 => met_J3_size K y0) q457 q100 q1866 q455 (zq q456) hd_J3_size (by decide) (by decide) rfl (by simp [zcat_rf, zcat_i, zcat_j, zcat_f, zcat_d]) (fun z hz => by cases hz) dX1_account_259 (fun r42 => ?_)
    show zS _ 262 _ [.int r42] _
    exact zs_iret hE dX1_account_262
theorem hd_X1_account : (yX1_account).cls ≠ "java/lang/invoke/MethodHandle" ∧ (yX1_account).cls ≠ "java/lang/invoke/VarHandle" ∧ (parseMethodDescriptor (yX1_account).desc).map (fun d => d.parameters.length) = some 1 := by decide +kernel
theorem met_X1_account (K : ZK) (this : Nat) (a1 : Int32) : zMeth K yX1_account (zws yX1_account cX1_account 2 (Option.some Jvm.ClassFile.FieldType.int)) 7 142 [.ref this, .int a1] encI (s_X1_account K this a1) :=
  fun l G hl hK => zmet_of hl hK (by decide +kernel) rfl rfl (by simp [zsl_nil, zsl_rf, zsl_r, zsl_i, zsl_j, zsl_f, zsl_d]) (fun x hE => by simp only [zla_nil, zla_rf, zla_r, zla_i, zla_j, zla_f, zla_d, Nat.reduceAdd]; exact sm_X1_account hE this a1)
theorem sm_X0_account {x : ZX Int32} {K : ZK} (hE : zE x K cX0_account RX0 "account" 4 8 163 encI (Option.some Jvm.ClassFile.FieldType.int) (tableOf [((0 : Nat), (9 : Nat), (12 : Nat), (41 : Nat))])) (a1 : Option Nat) (a2 : Int32) (a3 : Option Nat) : zS x 0 [(0, va_rf a1), (1, .int a2), (2, va_rf a3)] [] (s_X0_account K a1 a2 a3) := by
  unfold s_X0_account
  refine zs_aload_n hE 2 rfl rfl dX0_account_0 ?_
  refine zs_iconst hE (v := (0 : Int32)) (by decide) dX0_account_1 ?_
  refine zs_aload_n hE 0 rfl rfl dX0_account_2 ?_
  refine zs_iload_n hE 1 rfl rfl dX0_account_3 ?_
  refine zs_callVT hE (As := [.int a2]) (encA := encI) (ci := 24) rfl (fun y0 => met_X1_account K y0 a2) q2749 q95 q2746 q2747 (zq q2748) hd_X1_account (by decide) (by decide) rfl (by simp [zcat_rf, zcat_i, zcat_j, zcat_f, zcat_d]) (zhl_cons (zhnd (tableOf []) (tableOf []) ⟨0, 9, 12, 41⟩ rfl (fun w hw => by cases hw) (by decide) (by decide) q2133 (zn q1287 rfl) (fun q1 => ?_)) zhl_nil) dX0_account_4 (fun r2 => ?_)
  · have hE := zE_q q1 1 hE
    have hq := zqin_q (x := x) q1 1
    refine zs_astore_n hE (i := 3) (q := 3) rfl (by decide) (zcat_rf a3) (lv' := [(0, va_rf a1), (1, .int a2), (2, va_rf a3)]) rfl dX0_account_12 ?_
    refine zs_iconst hE (v := (1 : Int32)) (by decide) dX0_account_13 ?_
    exact zs_iret hE dX0_account_14
  · show zS _ 7 _ [.int r2, .int (0 : Int32), va_rf a3] _
    refine zs_i2l hE dX0_account_7 ?_
    refine zs_astJ hE dX0_account_8 ?_
    refine zs_goto hE 15 (by decide) dX0_account_9 ?_
    refine zs_iconst hE (v := (0 : Int32)) (by decide) dX0_account_15 ?_
    exact zs_iret hE dX0_account_16
theorem hd_X0_account : (yX0_account).cls ≠ "java/lang/invoke/MethodHandle" ∧ (yX0_account).cls ≠ "java/lang/invoke/VarHandle" ∧ (parseMethodDescriptor (yX0_account).desc).map (fun d => d.parameters.length) = some 3 := by decide +kernel
theorem met_X0_account (K : ZK) (a1 : Option Nat) (a2 : Int32) (a3 : Option Nat) : zMeth K yX0_account (zwsW yX0_account cX0_account 4 (Option.some Jvm.ClassFile.FieldType.int) [((0 : Nat), (9 : Nat), (12 : Nat), (41 : Nat))]) 8 163 [va_rf a1, .int a2, va_rf a3] encI (s_X0_account K a1 a2 a3) :=
  fun l G hl hK => zmet_ofH hl hK (by decide +kernel) rfl rfl (by simp [zsl_nil, zsl_rf, zsl_r, zsl_i, zsl_j, zsl_f, zsl_d]) (fun x hE => by simp only [zla_nil, zla_rf, zla_r, zla_i, zla_j, zla_f, zla_d, Nat.reduceAdd]; exact sm_X0_account hE a1 a2 a3)
theorem sm_X1_checkPut {x : ZX Unit} {K : ZK} (hE : zE x K cX1_checkPut RX1 "checkPut" 1 6 120 encV none []) (this : Nat) : zS x 0 [(0, va_rf (some this))] [] (s_X1_checkPut K this) := by
  unfold s_X1_checkPut
  refine zs_aload_n hE 0 rfl rfl dX1_checkPut_0 ?_
  refine zs_getR hE (ci := 24) (k := 0) rfl (by decide) in_X1 (Or.inl q391) (Or.inl rfl) dX1_checkPut_1 (fun v1 => ?_)
  refine zs_getI hE (ci := 34) (k := 10) rfl (by decide) in_X2 (Or.inr ⟨_, zn q246 rfl⟩) (Or.inl rfl) dX1_checkPut_4 (fun v2 => ?_)
  refine zs_if_ne hE 18 (by decide) dX1_checkPut_7 ?_ ?_
  · exact zs_throw hE (ik := 441) (ic := 443) (ci := 5) (by decide) (by decide +kernel) q2775 q162 zth_5 zthg_5 (by decide) (by decide) (fun z hz => by cases hz) dX1_checkPut_10 dX1_checkPut_13 dX1_checkPut_14 dX1_checkPut_17
  · exact zs_vret hE dX1_checkPut_18
theorem hd_X1_checkPut : (yX1_checkPut).cls ≠ "java/lang/invoke/MethodHandle" ∧ (yX1_checkPut).cls ≠ "java/lang/invoke/VarHandle" ∧ (parseMethodDescriptor (yX1_checkPut).desc).map (fun d => d.parameters.length) = some 0 := by decide +kernel
theorem met_X1_checkPut (K : ZK) (this : Nat) : zMeth K yX1_checkPut (zws yX1_checkPut cX1_checkPut 1 none) 6 120 [.ref this] encV (s_X1_checkPut K this) :=
  fun l G hl hK => zmet_of hl hK (by decide +kernel) rfl rfl (by simp [zsl_nil, zsl_rf, zsl_r, zsl_i, zsl_j, zsl_f, zsl_d]) (fun x hE => by simp only [zla_nil, zla_rf, zla_r, zla_i, zla_j, zla_f, zla_d, Nat.reduceAdd]; exact sm_X1_checkPut hE this)
theorem sm_X1_meanDelay {x : ZX UInt64} {K : ZK} (hE : zE x K cX1_meanDelay RX1 "meanDelay" 1 7 140 encD (Option.some Jvm.ClassFile.FieldType.double) []) (this : Nat) : zS x 0 [(0, va_rf (some this))] [] (s_X1_meanDelay K this) := by
  unfold s_X1_meanDelay
  refine zs_aload_n hE 0 rfl rfl dX1_meanDelay_0 ?_
  refine zs_callV hE (As := []) (encA := encV) (ci := 24) rfl (fun y0 => met_X1_checkPut K y0) q2774 q95 q2771 q2773 (zq qs45) hd_X1_checkPut (by decide) (by decide) rfl (by simp [zcat_rf, zcat_i, zcat_j, zcat_f, zcat_d]) (fun z hz => by cases hz) dX1_meanDelay_1 (fun _ => ?_)
  show zS _ 4 _ [] _
  refine zs_aload_n hE 0 rfl rfl dX1_meanDelay_4 ?_
  refine zs_getR hE (ci := 24) (k := 0) rfl (by decide) in_X1 (Or.inl q391) (Or.inl rfl) dX1_meanDelay_5 (fun v1 => ?_)
  refine zs_getI hE (ci := 34) (k := 18) rfl (by decide) in_X2 (Or.inr ⟨_, zn q267 rfl⟩) (Or.inl rfl) dX1_meanDelay_8 (fun v2 => ?_)
  refine zs_i2d hE dX1_meanDelay_11 ?_
  refine zs_aload_n hE 0 rfl rfl dX1_meanDelay_12 ?_
  refine zs_getR hE (ci := 24) (k := 0) rfl (by decide) in_X1 (Or.inl q391) (Or.inl rfl) dX1_meanDelay_13 (fun v3 => ?_)
  refine zs_getI hE (ci := 34) (k := 10) rfl (by decide) in_X2 (Or.inr ⟨_, zn q246 rfl⟩) (Or.inl rfl) dX1_meanDelay_16 (fun v4 => ?_)
  refine zs_i2d hE dX1_meanDelay_19 ?_
  refine zs_ddiv hE dX1_meanDelay_20 ?_
  exact zs_dret hE dX1_meanDelay_21
theorem hd_X1_meanDelay : (yX1_meanDelay).cls ≠ "java/lang/invoke/MethodHandle" ∧ (yX1_meanDelay).cls ≠ "java/lang/invoke/VarHandle" ∧ (parseMethodDescriptor (yX1_meanDelay).desc).map (fun d => d.parameters.length) = some 0 := by decide +kernel
theorem met_X1_meanDelay (K : ZK) (this : Nat) : zMeth K yX1_meanDelay (zws yX1_meanDelay cX1_meanDelay 1 (Option.some Jvm.ClassFile.FieldType.double)) 7 140 [.ref this] encD (s_X1_meanDelay K this) :=
  fun l G hl hK => zmet_of hl hK (by decide +kernel) rfl rfl (by simp [zsl_nil, zsl_rf, zsl_r, zsl_i, zsl_j, zsl_f, zsl_d]) (fun x hE => by simp only [zla_nil, zla_rf, zla_r, zla_i, zla_j, zla_f, zla_d, Nat.reduceAdd]; exact sm_X1_meanDelay hE this)
theorem sm_X0_meanDelay {x : ZX Int32} {K : ZK} (hE : zE x K cX0_meanDelay RX0 "meanDelay" 3 8 160 encI (Option.some Jvm.ClassFile.FieldType.int) (tableOf [((0 : Nat), (7 : Nat), (10 : Nat), (127 : Nat))])) (a1 : Option Nat) (a2 : Option Nat) : zS x 0 [(0, va_rf a1), (1, va_rf a2)] [] (s_X0_meanDelay K a1 a2) := by
  unfold s_X0_meanDelay
  refine zs_aload_n hE 1 rfl rfl dX0_meanDelay_0 ?_
  refine zs_iconst hE (v := (0 : Int32)) (by decide) dX0_meanDelay_1 ?_
  refine zs_aload_n hE 0 rfl rfl dX0_meanDelay_2 ?_
  refine zs_callVT hE (As := []) (encA := encD) (ci := 24) rfl (fun y0 => met_X1_meanDelay K y0) q2770 q95 q2767 q2768 (zq q2769) hd_X1_meanDelay (by decide) (by decide) rfl (by simp [zcat_rf, zcat_i, zcat_j, zcat_f, zcat_d]) (zhl_cons (zhnd (tableOf []) (tableOf []) ⟨0, 7, 10, 127⟩ rfl (fun w hw => by cases hw) (by decide) (by decide) q2753 (zn q2765 rfl) (fun q1 => ?_)) zhl_nil) dX0_meanDelay_3 (fun r2 => ?_)
  · have hE := zE_q q1 5 hE
    have hq := zqin_q (x := x) q1 5
    refine zs_astore_n hE (i := 2) (q := 2) rfl (by decide) (zcat_rf a2) (lv' := [(0, va_rf a1), (1, va_rf a2)]) rfl dX0_meanDelay_10 ?_
    refine zs_iconst hE (v := (1 : Int32)) (by decide) dX0_meanDelay_11 ?_
    exact zs_iret hE dX0_meanDelay_12
  · show zS _ 6 _ [.double r2, .int (0 : Int32), va_rf a2] _
    refine zs_astD hE dX0_meanDelay_6 ?_
    refine zs_goto hE 13 (by decide) dX0_meanDelay_7 ?_
    refine zs_iconst hE (v := (0 : Int32)) (by decide) dX0_meanDelay_13 ?_
    exact zs_iret hE dX0_meanDelay_14
theorem hd_X0_meanDelay : (yX0_meanDelay).cls ≠ "java/lang/invoke/MethodHandle" ∧ (yX0_meanDelay).cls ≠ "java/lang/invoke/VarHandle" ∧ (parseMethodDescriptor (yX0_meanDelay).desc).map (fun d => d.parameters.length) = some 2 := by decide +kernel
theorem met_X0_meanDelay (K : ZK) (a1 : Option Nat) (a2 : Option Nat) : zMeth K yX0_meanDelay (zwsW yX0_meanDelay cX0_meanDelay 3 (Option.some Jvm.ClassFile.FieldType.int) [((0 : Nat), (7 : Nat), (10 : Nat), (127 : Nat))]) 8 160 [va_rf a1, va_rf a2] encI (s_X0_meanDelay K a1 a2) :=
  fun l G hl hK => zmet_ofH hl hK (by decide +kernel) rfl rfl (by simp [zsl_nil, zsl_rf, zsl_r, zsl_i, zsl_j, zsl_f, zsl_d]) (fun x hE => by simp only [zla_nil, zla_rf, zla_r, zla_i, zla_j, zla_f, zla_d, Nat.reduceAdd]; exact sm_X0_meanDelay hE a1 a2)
theorem sm_X1_receivedShare {x : ZX UInt32} {K : ZK} (hE : zE x K cX1_receivedShare RX1 "receivedShare" 1 7 140 encF (Option.some Jvm.ClassFile.FieldType.float) []) (this : Nat) : zS x 0 [(0, va_rf (some this))] [] (s_X1_receivedShare K this) := by
  unfold s_X1_receivedShare
  refine zs_aload_n hE 0 rfl rfl dX1_receivedShare_0 ?_
  refine zs_callV hE (As := []) (encA := encV) (ci := 24) rfl (fun y0 => met_X1_checkPut K y0) q2774 q95 q2771 q2773 (zq qs45) hd_X1_checkPut (by decide) (by decide) rfl (by simp [zcat_rf, zcat_i, zcat_j, zcat_f, zcat_d]) (fun z hz => by cases hz) dX1_receivedShare_1 (fun _ => ?_)
  show zS _ 4 _ [] _
  refine zs_aload_n hE 0 rfl rfl dX1_receivedShare_4 ?_
  refine zs_getR hE (ci := 24) (k := 0) rfl (by decide) in_X1 (Or.inl q391) (Or.inl rfl) dX1_receivedShare_5 (fun v1 => ?_)
  refine zs_getI hE (ci := 34) (k := 11) rfl (by decide) in_X2 (Or.inr ⟨_, zn q249 rfl⟩) (Or.inl rfl) dX1_receivedShare_8 (fun v2 => ?_)
  refine zs_i2f hE dX1_receivedShare_11 ?_
  refine zs_aload_n hE 0 rfl rfl dX1_receivedShare_12 ?_
  refine zs_getR hE (ci := 24) (k := 0) rfl (by decide) in_X1 (Or.inl q391) (Or.inl rfl) dX1_receivedShare_13 (fun v3 => ?_)
  refine zs_getI hE (ci := 34) (k := 10) rfl (by decide) in_X2 (Or.inr ⟨_, zn q246 rfl⟩) (Or.inl rfl) dX1_receivedShare_16 (fun v4 => ?_)
  refine zs_i2f hE dX1_receivedShare_19 ?_
  refine zs_fdiv hE dX1_receivedShare_20 ?_
  exact zs_fret hE dX1_receivedShare_21
theorem hd_X1_receivedShare : (yX1_receivedShare).cls ≠ "java/lang/invoke/MethodHandle" ∧ (yX1_receivedShare).cls ≠ "java/lang/invoke/VarHandle" ∧ (parseMethodDescriptor (yX1_receivedShare).desc).map (fun d => d.parameters.length) = some 0 := by decide +kernel
theorem met_X1_receivedShare (K : ZK) (this : Nat) : zMeth K yX1_receivedShare (zws yX1_receivedShare cX1_receivedShare 1 (Option.some Jvm.ClassFile.FieldType.float)) 7 140 [.ref this] encF (s_X1_receivedShare K this) :=
  fun l G hl hK => zmet_of hl hK (by decide +kernel) rfl rfl (by simp [zsl_nil, zsl_rf, zsl_r, zsl_i, zsl_j, zsl_f, zsl_d]) (fun x hE => by simp only [zla_nil, zla_rf, zla_r, zla_i, zla_j, zla_f, zla_d, Nat.reduceAdd]; exact sm_X1_receivedShare hE this)
theorem sm_X0_receivedShare {x : ZX Int32} {K : ZK} (hE : zE x K cX0_receivedShare RX0 "receivedShare" 3 8 160 encI (Option.some Jvm.ClassFile.FieldType.int) (tableOf [((0 : Nat), (8 : Nat), (11 : Nat), (127 : Nat))])) (a1 : Option Nat) (a2 : Option Nat) : zS x 0 [(0, va_rf a1), (1, va_rf a2)] [] (s_X0_receivedShare K a1 a2) := by
  unfold s_X0_receivedShare
  refine zs_aload_n hE 1 rfl rfl dX0_receivedShare_0 ?_
  refine zs_iconst hE (v := (0 : Int32)) (by decide) dX0_receivedShare_1 ?_
  refine zs_aload_n hE 0 rfl rfl dX0_receivedShare_2 ?_
  refine zs_callVT hE (As := []) (encA := encF) (ci := 24) rfl (fun y0 => met_X1_receivedShare K y0) q2786 q95 q2783 q2784 (zq q2785) hd_X1_receivedShare (by decide) (by decide) rfl (by simp [zcat_rf, zcat_i, zcat_j, zcat_f, zcat_d]) (zhl_cons (zhnd (tableOf []) (tableOf []) ⟨0, 8, 11, 127⟩ rfl (fun w hw => by cases hw) (by decide) (by decide) q2753 (zn q2765 rfl) (fun q1 => ?_)) zhl_nil) dX0_receivedShare_3 (fun r2 => ?_)
  · have hE := zE_q q1 5 hE
    have hq := zqin_q (x := x) q1 5
    refine zs_astore_n hE (i := 2) (q := 2) rfl (by decide) (zcat_rf a2) (lv' := [(0, va_rf a1), (1, va_rf a2)]) rfl dX0_receivedShare_11 ?_
    refine zs_iconst hE (v := (1 : Int32)) (by decide) dX0_receivedShare_12 ?_
    exact zs_iret hE dX0_receivedShare_13
  · show zS _ 6 _ [.float r2, .int (0 : Int32), va_rf a2] _
    refine zs_f2d hE dX0_receivedShare_6 ?_
    refine zs_astD hE dX0_receivedShare_7 ?_
    refine zs_goto hE 14 (by decide) dX0_receivedShare_8 ?_
    refine zs_iconst hE (v := (0 : Int32)) (by decide) dX0_receivedShare_14 ?_
    exact zs_iret hE dX0_receivedShare_15
theorem hd_X0_receivedShare : (yX0_receivedShare).cls ≠ "java/lang/invoke/MethodHandle" ∧ (yX0_receivedShare).cls ≠ "java/lang/invoke/VarHandle" ∧ (parseMethodDescriptor (yX0_receivedShare).desc).map (fun d => d.parameters.length) = some 2 := by decide +kernel
theorem met_X0_receivedShare (K : ZK) (a1 : Option Nat) (a2 : Option Nat) : zMeth K yX0_receivedShare (zwsW yX0_receivedShare cX0_receivedShare 3 (Option.some Jvm.ClassFile.FieldType.int) [((0 : Nat), (8 : Nat), (11 : Nat), (127 : Nat))]) 8 160 [va_rf a1, va_rf a2] encI (s_X0_receivedShare K a1 a2) :=
  fun l G hl hK => zmet_ofH hl hK (by decide +kernel) rfl rfl (by simp [zsl_nil, zsl_rf, zsl_r, zsl_i, zsl_j, zsl_f, zsl_d]) (fun x hE => by simp only [zla_nil, zla_rf, zla_r, zla_i, zla_j, zla_f, zla_d, Nat.reduceAdd]; exact sm_X0_receivedShare hE a1 a2)
theorem sm_J3_isEmpty {x : ZX Int32} {K : ZK} (hE : zE x K cJ3_isEmpty RJ3 "isEmpty" 1 1 100 encI (Option.some Jvm.ClassFile.FieldType.boolean) []) (this : Nat) : zS x 0 [(0, va_rf (some this))] [] (s_J3_isEmpty K this) := by
  unfold s_J3_isEmpty
  refine zs_aload_n hE 0 rfl rfl dJ3_isEmpty_0 ?_
  refine zs_getI hE (ci := 10) (k := 1) rfl (by decide) in_J3 (Or.inl q349) (Or.inl rfl) dJ3_isEmpty_1 (fun v1 => ?_)
  refine zs_aload_n hE 0 rfl rfl dJ3_isEmpty_4 ?_
  refine zs_getI hE (ci := 10) (k := 2) rfl (by decide) in_J3 (Or.inl q350) (Or.inl rfl) dJ3_isEmpty_5 (fun v2 => ?_)
  refine zs_icmp_ne hE 15 (by decide) dJ3_isEmpty_8 ?_ ?_
  · refine zs_iconst hE (v := (1 : Int32)) (by decide) dJ3_isEmpty_11 ?_
    refine zs_goto hE 16 (by decide) dJ3_isEmpty_12 ?_
    exact zs_zret hE rfl dJ3_isEmpty_16
  · refine zs_iconst hE (v := (0 : Int32)) (by decide) dJ3_isEmpty_15 ?_
    exact zs_zret hE rfl dJ3_isEmpty_16
theorem hd_J3_isEmpty : (yJ3_isEmpty).cls ≠ "java/lang/invoke/MethodHandle" ∧ (yJ3_isEmpty).cls ≠ "java/lang/invoke/VarHandle" ∧ (parseMethodDescriptor (yJ3_isEmpty).desc).map (fun d => d.parameters.length) = some 0 := by decide +kernel
theorem met_J3_isEmpty (K : ZK) (this : Nat) : zMeth K yJ3_isEmpty (zws yJ3_isEmpty cJ3_isEmpty 1 (Option.some Jvm.ClassFile.FieldType.boolean)) 1 100 [.ref this] encI (s_J3_isEmpty K this) :=
  fun l G hl hK => zmet_of hl hK (by decide +kernel) rfl rfl (by simp [zsl_nil, zsl_rf, zsl_r, zsl_i, zsl_j, zsl_f, zsl_d]) (fun x hE => by simp only [zla_nil, zla_rf, zla_r, zla_i, zla_j, zla_f, zla_d, Nat.reduceAdd]; exact sm_J3_isEmpty hE this)
theorem sm_J3_dec {x : ZX Int32} {K : ZK} (hE : zE x K cJ3_dec RJ3 "dec" 2 1 100 encI (Option.some Jvm.ClassFile.FieldType.int) []) (a1 : Int32) (a2 : Int32) : zS x 0 [(0, .int a1), (1, .int a2)] [] (s_J3_dec K a1 a2) := by
  unfold s_J3_dec
  refine zs_iinc hE 0 (v := (-1 : Int32)) rfl (by decide) (by decide) (trivial) (lv' := [(1, .int a2)]) rfl dJ3_dec_0 ?_
  refine zs_iload_n hE 0 rfl rfl dJ3_dec_3 ?_
  refine zs_if_ge hE 11 (by decide) dJ3_dec_4 ?_ ?_
  · refine zs_iload_n hE 0 rfl rfl dJ3_dec_11 ?_
    exact zs_iret hE dJ3_dec_12
  · refine zs_iload_n hE 1 rfl rfl dJ3_dec_7 ?_
    refine zs_iconst hE (v := (1 : Int32)) (by decide) dJ3_dec_8 ?_
    refine zs_isub hE dJ3_dec_9 ?_
    refine zs_istore_n hE (i := 0) (q := 0) rfl (by decide) (trivial) (lv' := [(1, .int a2)]) rfl dJ3_dec_10 ?_
    refine zs_iload_n hE 0 rfl rfl dJ3_dec_11 ?_
    exact zs_iret hE dJ3_dec_12
theorem hd_J3_dec : (yJ3_dec).cls ≠ "java/lang/invoke/MethodHandle" ∧ (yJ3_dec).cls ≠ "java/lang/invoke/VarHandle" ∧ (parseMethodDescriptor (yJ3_dec).desc).map (fun d => d.parameters.length) = some 2 := by decide +kernel
theorem met_J3_dec (K : ZK) (a1 : Int32) (a2 : Int32) : zMeth K yJ3_dec (zws yJ3_dec cJ3_dec 2 (Option.some Jvm.ClassFile.FieldType.int)) 1 100 [.int a1, .int a2] encI (s_J3_dec K a1 a2) :=
  fun l G hl hK => zmet_of hl hK (by decide +kernel) rfl rfl (by simp [zsl_nil, zsl_rf, zsl_r, zsl_i, zsl_j, zsl_f, zsl_d]) (fun x hE => by simp only [zla_nil, zla_rf, zla_r, zla_i, zla_j, zla_f, zla_d, Nat.reduceAdd]; exact sm_J3_dec hE a1 a2)
theorem sm_J3_pollLast {x : ZX (Option Nat)} {K : ZK} (hE : zE x K cJ3_pollLast RJ3 "pollLast" 4 2 121 encR (Option.some (Jvm.ClassFile.FieldType.object "java/lang/Object")) []) (this : Nat) : zS x 0 [(0, va_rf (some this))] [] (s_J3_pollLast K this) := by
  unfold s_J3_pollLast
  refine zs_aload_n hE 0 rfl rfl dJ3_pollLast_0 ?_
  refine zs_getR hE (ci := 10) (k := 0) rfl (by decide) in_J3 (Or.inl q346) (Or.inl rfl) dJ3_pollLast_1 (fun v1 => ?_)
  refine zs_dup hE (zcat_rf _) dJ3_pollLast_4 ?_
  refine zs_astore_n hE (i := 1) (q := 1) rfl (by decide) (zcat_rf (some this)) (lv' := [(0, va_rf (some this))]) rfl dJ3_pollLast_5 ?_
  refine zs_aload_n hE 1 rfl rfl dJ3_pollLast_6 ?_
  refine zs_getI hE (ci := 10) (k := 2) rfl (by decide) in_J3 (Or.inl q350) (Or.inl rfl) dJ3_pollLast_7 (fun v2 => ?_)
  refine zs_aload_n hE 0 rfl rfl dJ3_pollLast_10 ?_
  refine zs_len hE (t := 4) rfl dJ3_pollLast_11 (fun v3 => ?_)
  refine zs_callS hE (As := [.int v2, .int v3]) (encA := encI) (met_J3_dec K v2 v3) q2808 q100 q2806 q2807 hd_J3_dec (by decide) (by decide) rfl (by simp [zcat_rf, zcat_i, zcat_j, zcat_f, zcat_d]) (fun z hz => by cases hz) dJ3_pollLast_12 (fun r4 => ?_)
  show zS _ 15 _ [.int r4, va_rf v1] _
  refine zs_dup hE (rfl) dJ3_pollLast_15 ?_
  refine zs_istore_n hE (i := 2) (q := 2) rfl (by decide) (zcat_rf v1) (lv' := [(1, va_rf v1), (0, va_rf (some this))]) rfl dJ3_pollLast_16 ?_
  refine zs_callS hE (As := [va_rf v1, .int r4]) (encA := encR) (met_J3_elementAt K v1 r4) q1877 q100 q1875 q1876 hd_J3_elementAt (by decide) (by decide) rfl (by simp [zcat_rf, zcat_i, zcat_j, zcat_f, zcat_d]) (fun z hz => by cases hz) dJ3_pollLast_17 (fun r5 => ?_)
  show zS _ 20 _ [va_rf r5] _
  refine zs_astore_n hE (i := 3) (q := 3) rfl (by decide) (rfl) (lv' := [(2, .int r4), (1, va_rf v1), (0, va_rf (some this))]) rfl dJ3_pollLast_20 ?_
  refine zs_aload_n hE 0 rfl rfl dJ3_pollLast_21 ?_
  refine zs_ifnull hE 34 (by decide) dJ3_pollLast_22 ?_ ?_
  · refine zs_aload_n hE 0 rfl rfl dJ3_pollLast_34 ?_
    exact zs_aret hE (Or.inl ⟨_, rfl⟩) dJ3_pollLast_35
  · refine zs_aload_n hE 2 rfl rfl dJ3_pollLast_25 ?_
    refine zs_aload_n hE 3 rfl rfl dJ3_pollLast_26 ?_
    refine zs_iload_n hE 1 rfl rfl dJ3_pollLast_27 ?_
    refine zs_dup_x1 hE (rfl) (zcat_rf _) dJ3_pollLast_28 ?_
    refine zs_putI hE (ci := 10) (k := 2) rfl (by decide) in_J3 (Or.inl q350) (Or.inl rfl) (Or.inl rfl) (fun h => nomatch h) rfl dJ3_pollLast_29 ?_
    refine zs_null hE dJ3_pollLast_32 ?_
    refine zs_astR hE dJ3_pollLast_33 ?_
    refine zs_aload_n hE 0 rfl rfl dJ3_pollLast_34 ?_
    exact zs_aret hE (Or.inl ⟨_, rfl⟩) dJ3_pollLast_35
theorem hd_J3_pollLast : (yJ3_pollLast).cls ≠ "java/lang/invoke/MethodHandle" ∧ (yJ3_pollLast).cls ≠ "java/lang/invoke/VarHandle" ∧ (parseMethodDescriptor (yJ3_pollLast).desc).map (fun d => d.parameters.length) = some 0 := by decide +kernel
theorem met_J3_pollLast (K : ZK) (this : Nat) : zMeth K yJ3_pollLast (zws yJ3_pollLast cJ3_pollLast 4 (Option.some (Jvm.ClassFile.FieldType.object "java/lang/Object"))) 2 121 [.ref this] encR (s_J3_pollLast K this) :=
  fun l G hl hK => zmet_of hl hK (by decide +kernel) rfl rfl (by simp [zsl_nil, zsl_rf, zsl_r, zsl_i, zsl_j, zsl_f, zsl_d]) (fun x hE => by simp only [zla_nil, zla_rf, zla_r, zla_i, zla_j, zla_f, zla_d, Nat.reduceAdd]; exact sm_J3_pollLast hE this)
theorem sm_J3_removeLast {x : ZX (Option Nat)} {K : ZK} (hE : zE x K cJ3_removeLast RJ3 "removeLast" 2 3 144 encR (Option.some (Jvm.ClassFile.FieldType.object "java/lang/Object")) []) (this : Nat) : zS x 0 [(0, va_rf (some this))] [] (s_J3_removeLast K this) := by
  unfold s_J3_removeLast
  refine zs_aload_n hE 0 rfl rfl dJ3_removeLast_0 ?_
  refine zs_callV hE (As := []) (encA := encR) (ci := 10) rfl (fun y0 => met_J3_pollLast K y0) q2805 q100 q2802 q2803 (zq q2804) hd_J3_pollLast (by decide) (by decide) rfl (by simp [zcat_rf, zcat_i, zcat_j, zcat_f, zcat_d]) (fun z hz => by cases hz) dJ3_removeLast_1 (fun r1 => ?_)
  show zS _ 4 _ [va_rf r1] _
  refine zs_astore_n hE (i := 1) (q := 1) rfl (by decide) (zcat_rf (some this)) (lv' := [(0, va_rf (some this))]) rfl dJ3_removeLast_4 ?_
  refine zs_aload_n hE 0 rfl rfl dJ3_removeLast_5 ?_
  refine zs_ifnonnull hE 17 (by decide) dJ3_removeLast_6 ?_ ?_
  · exact zs_bad
  · refine zs_aload_n hE 0 rfl rfl dJ3_removeLast_17 ?_
    exact zs_aret hE (Or.inl ⟨_, rfl⟩) dJ3_removeLast_18
theorem hd_J3_removeLast : (yJ3_removeLast).cls ≠ "java/lang/invoke/MethodHandle" ∧ (yJ3_removeLast).cls ≠ "java/lang/invoke/VarHandle" ∧ (parseMethodDescriptor (yJ3_removeLast).desc).map (fun d => d.parameters.length) = some 0 := by decide +kernel
theorem met_J3_removeLast (K : ZK) (this : Nat) : zMeth K yJ3_removeLast (zws yJ3_removeLast cJ3_removeLast 2 (Option.some (Jvm.ClassFile.FieldType.object "java/lang/Object"))) 3 144 [.ref this] encR (s_J3_removeLast K this) :=
  fun l G hl hK => zmet_of hl hK (by decide +kernel) rfl rfl (by simp [zsl_nil, zsl_rf, zsl_r, zsl_i, zsl_j, zsl_f, zsl_d]) (fun x hE => by simp only [zla_nil, zla_rf, zla_r, zla_i, zla_j, zla_f, zla_d, Nat.reduceAdd]; exact sm_J3_removeLast hE this)
theorem sm_X1_undo_J15 {x : ZX Int32} {K : ZK} (hE : zE x K cX1_undo RX1 "undo" 1 7 165 encI (Option.some Jvm.ClassFile.FieldType.int) []) (x0 : Nat) (t0 : Int32) : zS x 15 [(0, va_rf (some x0))] [.int t0] (s_X1_undo_J15 K x0 t0) := by
  unfold s_X1_undo_J15
  refine zs_callS hE (As := [.int t0]) (encA := encV) (met_X1_checkState K t0) q2449 q95 q2447 q2448 hd_X1_checkState (by decide) (by decide) rfl (by simp [zcat_rf, zcat_i, zcat_j, zcat_f, zcat_d]) (fun z hz => by cases hz) dX1_undo_15 (fun _ => ?_)
  show zS _ 18 _ [] _
  refine zs_aload_n hE 0 rfl rfl dX1_undo_18 ?_
  refine zs_aload_n hE 0 rfl rfl dX1_undo_19 ?_
  refine zs_getR hE (ci := 24) (k := 2) rfl (by decide) in_X1 (Or.inl q393) (Or.inl rfl) dX1_undo_20 (fun v3 => ?_)
  refine zs_callV hE (As := []) (encA := encR) (ci := 10) rfl (fun y0 => met_J3_removeLast K y0) q2801 q100 q2798 q2799 (zq q2800) hd_J3_removeLast (by decide) (by decide) rfl (by simp [zcat_rf, zcat_i, zcat_j, zcat_f, zcat_d]) (fun z hz => by cases hz) dX1_undo_23 (fun r4 => ?_)
  show zS _ 26 _ [va_rf r4, va_rf (some x0)] _
  refine zs_cast hE q171 (zc1 rfl (Or.inl rfl)) dX1_undo_26 ?_
  refine zs_putR hE (ci := 24) (k := 0) rfl (by decide) in_X1 (Or.inl q391) (Or.inl rfl) (Or.inl rfl) (fun h => nomatch h) (tyX1_ok 0 (by decide)) (Or.inl ⟨_, rfl⟩) dX1_undo_29 ?_
  refine zs_aload_n hE 0 rfl rfl dX1_undo_32 ?_
  refine zs_getR hE (ci := 24) (k := 2) rfl (by decide) in_X1 (Or.inl q393) (Or.inl rfl) dX1_undo_33 (fun v5 => ?_)
  refine zs_callV hE (As := []) (encA := encI) (ci := 10) rfl (fun y0 => met_J3_size K y0) q457 q100 q1866 q455 (zq q456) hd_J3_size (by decide) (by decide) rfl (by simp [zcat_rf, zcat_i, zcat_j, zcat_f, zcat_d]) (fun z hz => by cases hz) dX1_undo_36 (fun r6 => ?_)
  show zS _ 39 _ [.int r6] _
  exact zs_iret hE dX1_undo_39
theorem sm_X1_undo {x : ZX Int32} {K : ZK} (hE : zE x K cX1_undo RX1 "undo" 1 7 165 encI (Option.some Jvm.ClassFile.FieldType.int) []) (this : Nat) : zS x 0 [(0, va_rf (some this))] [] (s_X1_undo K this) := by
  unfold s_X1_undo
  refine zs_aload_n hE 0 rfl rfl dX1_undo_0 ?_
  refine zs_getR hE (ci := 24) (k := 2) rfl (by decide) in_X1 (Or.inl q393) (Or.inl rfl) dX1_undo_1 (fun v1 => ?_)
  refine zs_callV hE (As := []) (encA := encI) (ci := 10) rfl (fun y0 => met_J3_isEmpty K y0) q2797 q100 q2794 q2795 (zq q2796) hd_J3_isEmpty (by decide) (by decide) rfl (by simp [zcat_rf, zcat_i, zcat_j, zcat_f, zcat_d]) (fun z hz => by cases hz) dX1_undo_4 (fun r2 => ?_)
  show zS _ 7 _ [.int r2] _
  refine zs_if_ne hE 14 (by decide) dX1_undo_7 ?_ ?_
  · refine zs_iconst hE (v := (1 : Int32)) (by decide) dX1_undo_10 ?_
    refine zs_goto hE 15 (by decide) dX1_undo_11 ?_
    exact sm_X1_undo_J15 hE this (1 : Int32)
  · refine zs_iconst hE (v := (0 : Int32)) (by decide) dX1_undo_14 ?_
    exact sm_X1_undo_J15 hE this (0 : Int32)
theorem hd_X1_undo : (yX1_undo).cls ≠ "java/lang/invoke/MethodHandle" ∧ (yX1_undo).cls ≠ "java/lang/invoke/VarHandle" ∧ (parseMethodDescriptor (yX1_undo).desc).map (fun d => d.parameters.length) = some 0 := by decide +kernel
theorem met_X1_undo (K : ZK) (this : Nat) : zMeth K yX1_undo (zws yX1_undo cX1_undo 1 (Option.some Jvm.ClassFile.FieldType.int)) 7 165 [.ref this] encI (s_X1_undo K this) :=
  fun l G hl hK => zmet_of hl hK (by decide +kernel) rfl rfl (by simp [zsl_nil, zsl_rf, zsl_r, zsl_i, zsl_j, zsl_f, zsl_d]) (fun x hE => by simp only [zla_nil, zla_rf, zla_r, zla_i, zla_j, zla_f, zla_d, Nat.reduceAdd]; exact sm_X1_undo hE this)
theorem sm_X0_undo {x : ZX Int32} {K : ZK} (hE : zE x K cX0_undo RX0 "undo" 3 8 185 encI (Option.some Jvm.ClassFile.FieldType.int) (tableOf [((0 : Nat), (8 : Nat), (11 : Nat), (104 : Nat))])) (a1 : Option Nat) (a2 : Option Nat) : zS x 0 [(0, va_rf a1), (1, va_rf a2)] [] (s_X0_undo K a1 a2) := by
  unfold s_X0_undo
  refine zs_aload_n hE 1 rfl rfl dX0_undo_0 ?_
  refine zs_iconst hE (v := (0 : Int32)) (by decide) dX0_undo_1 ?_
  refine zs_aload_n hE 0 rfl rfl dX0_undo_2 ?_
  refine zs_callVT hE (As := []) (encA := encI) (ci := 24) rfl (fun y0 => met_X1_undo K y0) q2793 q95 q2790 q2791 (zq q2792) hd_X1_undo (by decide) (by decide) rfl (by simp [zcat_rf, zcat_i, zcat_j, zcat_f, zcat_d]) (zhl_cons (zhnd (tableOf []) (tableOf []) ⟨0, 8, 11, 104⟩ rfl (fun w hw => by cases hw) (by decide) (by decide) q2442 (zn q1849 rfl) (fun q1 => ?_)) zhl_nil) dX0_undo_3 (fun r2 => ?_)
  · have hE := zE_q q1 4 hE
    have hq := zqin_q (x := x) q1 4
    refine zs_astore_n hE (i := 2) (q := 2) rfl (by decide) (zcat_rf a2) (lv' := [(0, va_rf a1), (1, va_rf a2)]) rfl dX0_undo_11 ?_
    refine zs_iconst hE (v := (1 : Int32)) (by decide) dX0_undo_12 ?_
    exact zs_iret hE dX0_undo_13
  · show zS _ 6 _ [.int r2, .int (0 : Int32), va_rf a2] _
    refine zs_i2l hE dX0_undo_6 ?_
    refine zs_astJ hE dX0_undo_7 ?_
    refine zs_goto hE 14 (by decide) dX0_undo_8 ?_
    refine zs_iconst hE (v := (0 : Int32)) (by decide) dX0_undo_14 ?_
    exact zs_iret hE dX0_undo_15
theorem hd_X0_undo : (yX0_undo).cls ≠ "java/lang/invoke/MethodHandle" ∧ (yX0_undo).cls ≠ "java/lang/invoke/VarHandle" ∧ (parseMethodDescriptor (yX0_undo).desc).map (fun d => d.parameters.length) = some 2 := by decide +kernel
theorem met_X0_undo (K : ZK) (a1 : Option Nat) (a2 : Option Nat) : zMeth K yX0_undo (zwsW yX0_undo cX0_undo 3 (Option.some Jvm.ClassFile.FieldType.int) [((0 : Nat), (8 : Nat), (11 : Nat), (104 : Nat))]) 8 185 [va_rf a1, va_rf a2] encI (s_X0_undo K a1 a2) :=
  fun l G hl hK => zmet_ofH hl hK (by decide +kernel) rfl rfl (by simp [zsl_nil, zsl_rf, zsl_r, zsl_i, zsl_j, zsl_f, zsl_d]) (fun x hE => by simp only [zla_nil, zla_rf, zla_r, zla_i, zla_j, zla_f, zla_d, Nat.reduceAdd]; exact sm_X0_undo hE a1 a2)
theorem sm_J3_circularClear_B12 {x : ZX Unit} {K : ZK} (hE : zE x K cJ3_circularClear RJ3 "circularClear" 4 1 100 encV none []) (x0 : Option Nat) (x2 : Int32) (self12 : (Int32 × Int32) → ZP Unit) (hs12 : ∀ v : Int32 × Int32, zS x 12 [(0, va_rf x0), (1, .int v.1), (2, .int x2), (3, .int v.2)] [] (self12 v)) (x1 : Int32) (x3 : Int32) : zS x 12 [(0, va_rf x0), (1, .int x1), (2, .int x2), (3, .int x3)] [] (s_J3_circularClear_B12 K x0 x2 self12 x1 x3) := by
  unfold s_J3_circularClear_B12
  refine zs_iload_n hE 1 rfl rfl dJ3_circularClear_12 ?_
  refine zs_iload_n hE 3 rfl rfl dJ3_circularClear_13 ?_
  refine zs_icmp_ge hE 27 (by decide) dJ3_circularClear_14 ?_ ?_
  · refine zs_iload_n hE 3 rfl rfl dJ3_circularClear_27 ?_
    refine zs_iload_n hE 2 rfl rfl dJ3_circularClear_28 ?_
    refine zs_icmp_ne hE 35 (by decide) dJ3_circularClear_29 ?_ ?_
    · refine zs_goto hE 42 (by decide) dJ3_circularClear_32 ?_
      exact zs_vret hE dJ3_circularClear_42
    · refine zs_iconst hE (v := (0 : Int32)) (by decide) dJ3_circularClear_35 ?_
      refine zs_istore_n hE (i := 1) (q := 1) rfl (by decide) (zcat_rf x0) (lv' := [(0, va_rf x0), (2, .int x2), (3, .int x3)]) rfl dJ3_circularClear_36 ?_
      refine zs_iload_n hE 2 rfl rfl dJ3_circularClear_37 ?_
      refine zs_istore_n hE (i := 3) (q := 3) rfl (by decide) (rfl) (lv' := [(1, .int (0 : Int32)), (0, va_rf x0), (2, .int x2)]) rfl dJ3_circularClear_38 ?_
      refine zs_goto hE 12 (by decide) dJ3_circularClear_39 ?_
      refine zs_sub [2, 1, 3, 0] rfl ?_
      exact hs12 ((0 : Int32), x2)
  · refine zs_aload_n hE 0 rfl rfl dJ3_circularClear_17 ?_
    refine zs_iload_n hE 1 rfl rfl dJ3_circularClear_18 ?_
    refine zs_null hE dJ3_circularClear_19 ?_
    refine zs_astR hE dJ3_circularClear_20 ?_
    refine zs_iinc hE 1 (v := (1 : Int32)) rfl (by decide) (by decide) (zcat_rf x0) (lv' := [(0, va_rf x0), (2, .int x2), (3, .int x3)]) rfl dJ3_circularClear_21 ?_
    refine zs_goto hE 12 (by decide) dJ3_circularClear_24 ?_
    refine zs_sub [1, 0, 2, 3] rfl ?_
    exact hs12 (x1 + (1 : Int32), x3)
theorem sm_J3_circularClear_L12 {x : ZX Unit} {K : ZK} (hE : zE x K cJ3_circularClear RJ3 "circularClear" 4 1 100 encV none []) (x0 : Option Nat) (x2 : Int32) (v : Int32 × Int32) : zS x 12 [(0, va_rf x0), (1, .int v.1), (2, .int x2), (3, .int v.2)] [] (s_J3_circularClear_L12 K x0 x2 v) := by
  unfold s_J3_circularClear_L12
  exact zs_loop (lvf := fun v => [(0, va_rf x0), (1, .int v.1), (2, .int x2), (3, .int v.2)]) (fun self12 hs12 v => sm_J3_circularClear_B12 hE x0 x2 self12 hs12 v.1 v.2) v
theorem sm_J3_circularClear {x : ZX Unit} {K : ZK} (hE : zE x K cJ3_circularClear RJ3 "circularClear" 4 1 100 encV none []) (a1 : Option Nat) (a2 : Int32) (a3 : Int32) : zS x 0 [(0, va_rf a1), (1, .int a2), (2, .int a3)] [] (s_J3_circularClear K a1 a2 a3) := by
  unfold s_J3_circularClear
  refine zs_iload_n hE 1 rfl rfl dJ3_circularClear_0 ?_
  refine zs_iload_n hE 2 rfl rfl dJ3_circularClear_1 ?_
  refine zs_icmp_gt hE 9 (by decide) dJ3_circularClear_2 ?_ ?_
  · refine zs_aload_n hE 0 rfl rfl dJ3_circularClear_9 ?_
    refine zs_len hE (t := 4) rfl dJ3_circularClear_10 (fun v1 => ?_)
    refine zs_istore_n hE (i := 3) (q := 3) rfl (by decide) (rfl) (lv' := [(0, va_rf a1), (1, .int a2), (2, .int a3)]) rfl dJ3_circularClear_11 ?_
    refine zs_sub [1, 2, 3, 0] rfl ?_
    exact sm_J3_circularClear_L12 hE a1 a3 (a2, v1)
  · refine zs_iload_n hE 2 rfl rfl dJ3_circularClear_5 ?_
    refine zs_goto hE 11 (by decide) dJ3_circularClear_6 ?_
    refine zs_istore_n hE (i := 3) (q := 3) rfl (by decide) (rfl) (lv' := [(0, va_rf a1), (1, .int a2), (2, .int a3)]) rfl dJ3_circularClear_11 ?_
    refine zs_sub [1, 2, 3, 0] rfl ?_
    exact sm_J3_circularClear_L12 hE a1 a3 (a2, a3)
theorem hd_J3_circularClear : (yJ3_circularClear).cls ≠ "java/lang/invoke/MethodHandle" ∧ (yJ3_circularClear).cls ≠ "java/lang/invoke/VarHandle" ∧ (parseMethodDescriptor (yJ3_circularClear).desc).map (fun d => d.parameters.length) = some 3 := by decide +kernel
theorem met_J3_circularClear (K : ZK) (a1 : Option Nat) (a2 : Int32) (a3 : Int32) : zMeth K yJ3_circularClear (zws yJ3_circularClear cJ3_circularClear 4 none) 1 100 [va_rf a1, .int a2, .int a3] encV (s_J3_circularClear K a1 a2 a3) :=
  fun l G hl hK => zmet_of hl hK (by decide +kernel) rfl rfl (by simp [zsl_nil, zsl_rf, zsl_r, zsl_i, zsl_j, zsl_f, zsl_d]) (fun x hE => by simp only [zla_nil, zla_rf, zla_r, zla_i, zla_j, zla_f, zla_d, Nat.reduceAdd]; exact sm_J3_circularClear hE a1 a2 a3)
theorem sm_J3_clear {x : ZX Unit} {K : ZK} (hE : zE x K cJ3_clear RJ3 "clear" 1 2 123 encV none []) (this : Nat) : zS x 0 [(0, va_rf (some this))] [] (s_J3_clear K this) := by
  unfold s_J3_clear
  refine zs_aload_n hE 0 rfl rfl dJ3_clear_0 ?_
  refine zs_getR hE (ci := 10) (k := 0) rfl (by decide) in_J3 (Or.inl q346) (Or.inl rfl) dJ3_clear_1 (fun v1 => ?_)
  refine zs_aload_n hE 0 rfl rfl dJ3_clear_4 ?_
  refine zs_getI hE (ci := 10) (k := 1) rfl (by decide) in_J3 (Or.inl q349) (Or.inl rfl) dJ3_clear_5 (fun v2 => ?_)
  refine zs_aload_n hE 0 rfl rfl dJ3_clear_8 ?_
  refine zs_getI hE (ci := 10) (k := 2) rfl (by decide) in_J3 (Or.inl q350) (Or.inl rfl) dJ3_clear_9 (fun v3 => ?_)
  refine zs_callS hE (As := [va_rf v1, .int v2, .int v3]) (encA := encV) (met_J3_circularClear K v1 v2 v3) q2822 q100 q2820 q2821 hd_J3_circularClear (by decide) (by decide) rfl (by simp [zcat_rf, zcat_i, zcat_j, zcat_f, zcat_d]) (fun z hz => by cases hz) dJ3_clear_12 (fun _ => ?_)
  show zS _ 15 _ [] _
  refine zs_aload_n hE 0 rfl rfl dJ3_clear_15 ?_
  refine zs_aload_n hE 0 rfl rfl dJ3_clear_16 ?_
  refine zs_iconst hE (v := (0 : Int32)) (by decide) dJ3_clear_17 ?_
  refine zs_dup_x1 hE (rfl) (zcat_rf _) dJ3_clear_18 ?_
  refine zs_putI hE (ci := 10) (k := 2) rfl (by decide) in_J3 (Or.inl q350) (Or.inl rfl) (Or.inl rfl) (fun h => nomatch h) rfl dJ3_clear_19 ?_
  refine zs_putI hE (ci := 10) (k := 1) rfl (by decide) in_J3 (Or.inl q349) (Or.inl rfl) (Or.inl rfl) (fun h => nomatch h) rfl dJ3_clear_22 ?_
  exact zs_vret hE dJ3_clear_25
theorem hd_J3_clear : (yJ3_clear).cls ≠ "java/lang/invoke/MethodHandle" ∧ (yJ3_clear).cls ≠ "java/lang/invoke/VarHandle" ∧ (parseMethodDescriptor (yJ3_clear).desc).map (fun d => d.parameters.length) = some 0 := by decide +kernel
theorem met_J3_clear (K : ZK) (this : Nat) : zMeth K yJ3_clear (zws yJ3_clear cJ3_clear 1 none) 2 123 [.ref this] encV (s_J3_clear K this) :=
  fun l G hl hK => zmet_of hl hK (by decide +kernel) rfl rfl (by simp [zsl_nil, zsl_rf, zsl_r, zsl_i, zsl_j, zsl_f, zsl_d]) (fun x hE => by simp only [zla_nil, zla_rf, zla_r, zla_i, zla_j, zla_f, zla_d, Nat.reduceAdd]; exact sm_J3_clear hE this)
theorem sm_X1_restore_J12 {x : ZX Int32} {K : ZK} (hE : zE x K cX1_restore RX1 "restore" 1 10 298 encI (Option.some Jvm.ClassFile.FieldType.int) []) (x0 : Nat) (t0 : Int32) : zS x 12 [(0, va_rf (some x0))] [.int t0] (s_X1_restore_J12 K x0 t0) := by
  unfold s_X1_restore_J12
  refine zs_callS hE (As := [.int t0]) (encA := encV) (met_X1_checkState K t0) q2449 q95 q2447 q2448 hd_X1_checkState (by decide) (by decide) rfl (by simp [zcat_rf, zcat_i, zcat_j, zcat_f, zcat_d]) (fun z hz => by cases hz) dX1_restore_12 (fun _ => ?_)
  show zS _ 15 _ [] _
  refine zs_aload_n hE 0 rfl rfl dX1_restore_15 ?_
  refine zs_aload_n hE 0 rfl rfl dX1_restore_16 ?_
  refine zs_getR hE (ci := 24) (k := 1) rfl (by decide) in_X1 (Or.inl q392) (Or.inl rfl) dX1_restore_17 (fun v2 => ?_)
  refine zs_callV hE (As := []) (encA := encR) (ci := 34) rfl (fun y0 => met_X2_copy K y0) q1507 q96 q1504 q1505 (zq q1506) hd_X2_copy (by decide) (by decide) rfl (by simp [zcat_rf, zcat_i, zcat_j, zcat_f, zcat_d]) (fun z hz => by cases hz) dX1_restore_20 (fun r3 => ?_)
  show zS _ 23 _ [va_rf r3, va_rf (some x0)] _
  refine zs_putR hE (ci := 24) (k := 0) rfl (by decide) in_X1 (Or.inl q391) (Or.inl rfl) (Or.inl rfl) (fun h => nomatch h) (tyX1_ok 0 (by decide)) (Or.inl ⟨_, rfl⟩) dX1_restore_23 ?_
  refine zs_aload_n hE 0 rfl rfl dX1_restore_26 ?_
  refine zs_getR hE (ci := 24) (k := 2) rfl (by decide) in_X1 (Or.inl q393) (Or.inl rfl) dX1_restore_27 (fun v4 => ?_)
  refine zs_callV hE (As := []) (encA := encV) (ci := 10) rfl (fun y0 => met_J3_clear K y0) q2819 q100 q2816 q2817 (zq q2818) hd_J3_clear (by decide) (by decide) rfl (by simp [zcat_rf, zcat_i, zcat_j, zcat_f, zcat_d]) (fun z hz => by cases hz) dX1_restore_30 (fun _ => ?_)
  show zS _ 33 _ [] _
  refine zs_aload_n hE 0 rfl rfl dX1_restore_33 ?_
  refine zs_getR hE (ci := 24) (k := 0) rfl (by decide) in_X1 (Or.inl q391) (Or.inl rfl) dX1_restore_34 (fun v5 => ?_)
  refine zs_getI hE (ci := 34) (k := 8) rfl (by decide) in_X2 (Or.inr ⟨_, zn q241 rfl⟩) (Or.inl rfl) dX1_restore_37 (fun v6 => ?_)
  exact zs_iret hE dX1_restore_40
theorem sm_X1_restore {x : ZX Int32} {K : ZK} (hE : zE x K cX1_restore RX1 "restore" 1 10 298 encI (Option.some Jvm.ClassFile.FieldType.int) []) (this : Nat) : zS x 0 [(0, va_rf (some this))] [] (s_X1_restore K this) := by
  unfold s_X1_restore
  refine zs_aload_n hE 0 rfl rfl dX1_restore_0 ?_
  refine zs_getR hE (ci := 24) (k := 1) rfl (by decide) in_X1 (Or.inl q392) (Or.inl rfl) dX1_restore_1 (fun v1 => ?_)
  refine zs_ifnull hE 11 (by decide) dX1_restore_4 ?_ ?_
  · refine zs_iconst hE (v := (0 : Int32)) (by decide) dX1_restore_11 ?_
    exact sm_X1_restore_J12 hE this (0 : Int32)
  · refine zs_iconst hE (v := (1 : Int32)) (by decide) dX1_restore_7 ?_
    refine zs_goto hE 12 (by decide) dX1_restore_8 ?_
    exact sm_X1_restore_J12 hE this (1 : Int32)
theorem hd_X1_restore : (yX1_restore).cls ≠ "java/lang/invoke/MethodHandle" ∧ (yX1_restore).cls ≠ "java/lang/invoke/VarHandle" ∧ (parseMethodDescriptor (yX1_restore).desc).map (fun d => d.parameters.length) = some 0 := by decide +kernel
theorem met_X1_restore (K : ZK) (this : Nat) : zMeth K yX1_restore (zws yX1_restore cX1_restore 1 (Option.some Jvm.ClassFile.FieldType.int)) 10 298 [.ref this] encI (s_X1_restore K this) :=
  fun l G hl hK => zmet_of hl hK (by decide +kernel) rfl rfl (by simp [zsl_nil, zsl_rf, zsl_r, zsl_i, zsl_j, zsl_f, zsl_d]) (fun x hE => by simp only [zla_nil, zla_rf, zla_r, zla_i, zla_j, zla_f, zla_d, Nat.reduceAdd]; exact sm_X1_restore hE this)
theorem sm_X0_restore {x : ZX Int32} {K : ZK} (hE : zE x K cX0_restore RX0 "restore" 3 11 318 encI (Option.some Jvm.ClassFile.FieldType.int) (tableOf [((0 : Nat), (8 : Nat), (11 : Nat), (104 : Nat))])) (a1 : Option Nat) (a2 : Option Nat) : zS x 0 [(0, va_rf a1), (1, va_rf a2)] [] (s_X0_restore K a1 a2) := by
  unfold s_X0_restore
  refine zs_aload_n hE 1 rfl rfl dX0_restore_0 ?_
  refine zs_iconst hE (v := (0 : Int32)) (by decide) dX0_restore_1 ?_
  refine zs_aload_n hE 0 rfl rfl dX0_restore_2 ?_
  refine zs_callVT hE (As := []) (encA := encI) (ci := 24) rfl (fun y0 => met_X1_restore K y0) q2815 q95 q2812 q2813 (zq q2814) hd_X1_restore (by decide) (by decide) rfl (by simp [zcat_rf, zcat_i, zcat_j, zcat_f, zcat_d]) (zhl_cons (zhnd (tableOf []) (tableOf []) ⟨0, 8, 11, 104⟩ rfl (fun w hw => by cases hw) (by decide) (by decide) q2442 (zn q1849 rfl) (fun q1 => ?_)) zhl_nil) dX0_restore_3 (fun r2 => ?_)
  · have hE := zE_q q1 4 hE
    have hq := zqin_q (x := x) q1 4
    refine zs_astore_n hE (i := 2) (q := 2) rfl (by decide) (zcat_rf a2) (lv' := [(0, va_rf a1), (1, va_rf a2)]) rfl dX0_restore_11 ?_
    refine zs_iconst hE (v := (1 : Int32)) (by decide) dX0_restore_12 ?_
    exact zs_iret hE dX0_restore_13
  · show zS _ 6 _ [.int r2, .int (0 : Int32), va_rf a2] _
    refine zs_i2l hE dX0_restore_6 ?_
    refine zs_astJ hE dX0_restore_7 ?_
    refine zs_goto hE 14 (by decide) dX0_restore_8 ?_
    refine zs_iconst hE (v := (0 : Int32)) (by decide) dX0_restore_14 ?_
    exact zs_iret hE dX0_restore_15
theorem hd_X0_restore : (yX0_restore).cls ≠ "java/lang/invoke/MethodHandle" ∧ (yX0_restore).cls ≠ "java/lang/invoke/VarHandle" ∧ (parseMethodDescriptor (yX0_restore).desc).map (fun d => d.parameters.length) = some 2 := by decide +kernel
theorem met_X0_restore (K : ZK) (a1 : Option Nat) (a2 : Option Nat) : zMeth K yX0_restore (zwsW yX0_restore cX0_restore 3 (Option.some Jvm.ClassFile.FieldType.int) [((0 : Nat), (8 : Nat), (11 : Nat), (104 : Nat))]) 11 318 [va_rf a1, va_rf a2] encI (s_X0_restore K a1 a2) :=
  fun l G hl hK => zmet_ofH hl hK (by decide +kernel) rfl rfl (by simp [zsl_nil, zsl_rf, zsl_r, zsl_i, zsl_j, zsl_f, zsl_d]) (fun x hE => by simp only [zla_nil, zla_rf, zla_r, zla_i, zla_j, zla_f, zla_d, Nat.reduceAdd]; exact sm_X0_restore hE a1 a2)
theorem sm_J2_init__J3 {x : ZX Unit} {K : ZK} (hE : zE x K cJ2_init RJ2 "<init>" 1 1 100 encV none []) (this : Nat) : zS x 0 [(0, va_rf (some this))] [] (s_J2_init__J3 K this) := by
  unfold s_J2_init__J3
  refine zs_aload_n hE 0 rfl rfl dJ2_init_0 ?_
  refine zs_objInit hE q343 q169 q170 (by decide) (by first | decide | simp [zcat_rf, zcat_i, zcat_j, zcat_f, zcat_d]) dJ2_init_1 ?_
  exact zs_vret hE dJ2_init_4
theorem hd_J2_init__J3 : (yJ2_init).cls ≠ "java/lang/invoke/MethodHandle" ∧ (yJ2_init).cls ≠ "java/lang/invoke/VarHandle" ∧ (parseMethodDescriptor (yJ2_init).desc).map (fun d => d.parameters.length) = some 0 := by decide +kernel
theorem met_J2_init__J3 (K : ZK) (this : Nat) : zMeth K yJ2_init (zws yJ2_init cJ2_init 1 none) 1 100 [.ref this] encV (s_J2_init__J3 K this) :=
  fun l G hl hK => zmet_of hl hK (by decide +kernel) rfl rfl (by simp [zsl_nil, zsl_rf, zsl_r, zsl_i, zsl_j, zsl_f, zsl_d]) (fun x hE => by simp only [zla_nil, zla_rf, zla_r, zla_i, zla_j, zla_f, zla_d, Nat.reduceAdd]; exact sm_J2_init__J3 hE this)
theorem sm_J3_init {x : ZX Unit} {K : ZK} (hE : zE x K cJ3_init RJ3 "<init>" 1 2 120 encV none []) (this : Nat) : zS x 0 [(0, va_rf (some this))] [] (s_J3_init K this) := by
  unfold s_J3_init
  refine zs_aload_n hE 0 rfl rfl dJ3_init_0 ?_
  refine zs_callI hE (As := []) (encA := encV) (met_J2_init__J3 K this) q342 q99 q340 q341 rfl hd_J2_init__J3 (by decide) (by decide) rfl (by simp [zcat_rf, zcat_i, zcat_j, zcat_f, zcat_d]) (fun z hz => by cases hz) dJ3_init_1 (fun _ => ?_)
  show zS _ 4 _ [] _
  refine zs_aload_n hE 0 rfl rfl dJ3_init_4 ?_
  refine zs_bipush hE (v := (17 : Int32)) (by decide) dJ3_init_5 ?_
  refine zs_newR hE q344 dJ3_init_7 (fun q1 => ?_)
  refine zs_putR hE (ci := 10) (k := 0) rfl (by decide) in_J3 (Or.inl q346) (Or.inl rfl) (Or.inl rfl) (fun h => nomatch h) (tyJ3_ok 0 (by decide)) (Or.inr ⟨_, rfl⟩) dJ3_init_10 ?_
  exact zs_vret hE dJ3_init_13
theorem hd_J3_init : (yJ3_init).cls ≠ "java/lang/invoke/MethodHandle" ∧ (yJ3_init).cls ≠ "java/lang/invoke/VarHandle" ∧ (parseMethodDescriptor (yJ3_init).desc).map (fun d => d.parameters.length) = some 0 := by decide +kernel
theorem met_J3_init (K : ZK) (this : Nat) : zMeth K yJ3_init (zws yJ3_init cJ3_init 1 none) 2 120 [.ref this] encV (s_J3_init K this) :=
  fun l G hl hK => zmet_of hl hK (by decide +kernel) rfl rfl (by simp [zsl_nil, zsl_rf, zsl_r, zsl_i, zsl_j, zsl_f, zsl_d]) (fun x hE => by simp only [zla_nil, zla_rf, zla_r, zla_i, zla_j, zla_f, zla_d, Nat.reduceAdd]; exact sm_J3_init hE this)
theorem sm_J4_init__J5 {x : ZX Unit} {K : ZK} (hE : zE x K cJ4_init RJ4 "<init>" 2 1 100 encV none []) (this : Nat) (a1 : Int32) : zS x 0 [(0, va_rf (some this)), (1, .int a1)] [] (s_J4_init__J5 K this a1) := by
  unfold s_J4_init__J5
  refine zs_aload_n hE 0 rfl rfl dJ4_init_0 ?_
  refine zs_objInit hE q366 q169 q170 (by decide) (by first | decide | simp [zcat_rf, zcat_i, zcat_j, zcat_f, zcat_d]) dJ4_init_1 ?_
  refine zs_gets hE (C := "java/lang/String") (v := .int (1 : Int32)) (by simp [zST]) q367 (Or.inl rfl) dJ4_init_4 ?_
  refine zs_if_eq hE 25 (by decide) dJ4_init_7 ?_ ?_
  · exact zs_bad
  · refine zs_aload_n hE 0 rfl rfl dJ4_init_10 ?_
    refine zs_iload_n hE 1 rfl rfl dJ4_init_11 ?_
    refine zs_newA hE 3 (at0 := .byte) q390 rfl rfl (by decide) (fun _ _ h => h) (fun _ => rfl) (by decide) dJ4_init_12 (fun q1 => ?_)
    refine zs_putR hE (ci := 21) (k := 0) rfl (by decide) in_J5 (Or.inl q376) (Or.inl rfl) (Or.inl rfl) (fun h => nomatch h) (tyJ5_ok 0 (by decide)) (Or.inr ⟨_, rfl⟩) dJ4_init_14 ?_
    refine zs_aload_n hE 0 rfl rfl dJ4_init_17 ?_
    refine zs_iconst hE (v := (0 : Int32)) (by decide) dJ4_init_18 ?_
    refine zs_putT hE (ci := 21) (k := 1) rfl (by decide) in_J5 (Or.inl q377) (Or.inl rfl) (Or.inl rfl) (fun h => nomatch h) rfl dJ4_init_19 ?_
    refine zs_goto hE 38 (by decide) dJ4_init_22 ?_
    exact zs_vret hE dJ4_init_38
theorem hd_J4_init__J5 : (yJ4_init).cls ≠ "java/lang/invoke/MethodHandle" ∧ (yJ4_init).cls ≠ "java/lang/invoke/VarHandle" ∧ (parseMethodDescriptor (yJ4_init).desc).map (fun d => d.parameters.length) = some 1 := by decide +kernel
theorem met_J4_init__J5 (K : ZK) (this : Nat) (a1 : Int32) : zMeth K yJ4_init (zws yJ4_init cJ4_init 2 none) 1 100 [.ref this, .int a1] encV (s_J4_init__J5 K this a1) :=
  fun l G hl hK => zmet_of hl hK (by decide +kernel) rfl rfl (by simp [zsl_nil, zsl_rf, zsl_r, zsl_i, zsl_j, zsl_f, zsl_d]) (fun x hE => by simp only [zla_nil, zla_rf, zla_r, zla_i, zla_j, zla_f, zla_d, Nat.reduceAdd]; exact sm_J4_init__J5 hE this a1)
theorem sm_J5_init {x : ZX Unit} {K : ZK} (hE : zE x K cJ5_init RJ5 "<init>" 1 2 121 encV none []) (this : Nat) : zS x 0 [(0, va_rf (some this))] [] (s_J5_init K this) := by
  unfold s_J5_init
  refine zs_aload_n hE 0 rfl rfl dJ5_init_0 ?_
  refine zs_bipush hE (v := (16 : Int32)) (by decide) dJ5_init_1 ?_
  refine zs_callI hE (As := [.int (16 : Int32)]) (encA := encV) (met_J4_init__J5 K this (16 : Int32)) q365 q101 q363 q364 rfl hd_J4_init__J5 (by decide) (by decide) rfl (by simp [zcat_rf, zcat_i, zcat_j, zcat_f, zcat_d]) (fun z hz => by cases hz) dJ5_init_3 (fun _ => ?_)
  show zS _ 6 _ [] _
  exact zs_vret hE dJ5_init_6
theorem hd_J5_init : (yJ5_init).cls ≠ "java/lang/invoke/MethodHandle" ∧ (yJ5_init).cls ≠ "java/lang/invoke/VarHandle" ∧ (parseMethodDescriptor (yJ5_init).desc).map (fun d => d.parameters.length) = some 0 := by decide +kernel
theorem met_J5_init (K : ZK) (this : Nat) : zMeth K yJ5_init (zws yJ5_init cJ5_init 1 none) 2 121 [.ref this] encV (s_J5_init K this) :=
  fun l G hl hK => zmet_of hl hK (by decide +kernel) rfl rfl (by simp [zsl_nil, zsl_rf, zsl_r, zsl_i, zsl_j, zsl_f, zsl_d]) (fun x hE => by simp only [zla_nil, zla_rf, zla_r, zla_i, zla_j, zla_f, zla_d, Nat.reduceAdd]; exact sm_J5_init hE this)
theorem sm_X1_init {x : ZX Unit} {K : ZK} (hE : zE x K cX1_init RX1 "<init>" 1 4 160 encV none []) (this : Nat) : zS x 0 [(0, va_rf (some this))] [] (s_X1_init K this) := by
  unfold s_X1_init
  refine zs_aload_n hE 0 rfl rfl dX1_init_0 ?_
  refine zs_objInit hE q168 q169 q170 (by decide) (by first | decide | simp [zcat_rf, zcat_i, zcat_j, zcat_f, zcat_d]) dX1_init_1 ?_
  refine zs_aload_n hE 0 rfl rfl dX1_init_4 ?_
  refine zs_new hE (ci := 34) (fs := [.null, .int 0, .int 0, .int 0, .int 0, .null, .int 0, .int 0, .int 0, .int 0, .int 0, .int 0, .int 0, .int 0, .int 0, .int 0, .int 0, .int 0, .int 0, .int 0, .int 0, .int 0, .int 0, .int 0, .int 0]) rfl in_X2 tyX2 tyX2_ok q171 q172 q96 (fun j hj => by rcases (show j = 0 ∨ j = 1 ∨ j = 2 ∨ j = 3 ∨ j = 4 ∨ j = 5 ∨ j = 6 ∨ j = 7 ∨ j = 8 ∨ j = 9 ∨ j = 10 ∨ j = 11 ∨ j = 12 ∨ j = 13 ∨ j = 14 ∨ j = 15 ∨ j = 16 ∨ j = 17 ∨ j = 18 ∨ j = 19 ∨ j = 20 ∨ j = 21 ∨ j = 22 ∨ j = 23 ∨ j = 24 by omega) with rfl | rfl | rfl | rfl | rfl | rfl | rfl | rfl | rfl | rfl | rfl | rfl | rfl | rfl | rfl | rfl | rfl | rfl | rfl | rfl | rfl | rfl | rfl | rfl | rfl <;> rfl) dX1_init_5 (fun q1 => ?_)
  refine zs_dup hE (zcat_rf _) dX1_init_8 ?_
  refine zs_callIN hE (As := []) (encA := encV) (met_X2_init K q1) q175 q96 (zn q173 rfl) q174 rfl hd_X2_init (by decide) (by decide) rfl (by simp [zcat_rf, zcat_i, zcat_j, zcat_f, zcat_d]) (fun z hz => by cases hz) dX1_init_9 (fun _ => ?_)
  show zS _ 12 _ [va_rf (some q1), va_rf (some this)] _
  refine zs_putR hE (ci := 24) (k := 0) rfl (by decide) in_X1 (Or.inl q391) (Or.inl rfl) (Or.inl rfl) (fun h => nomatch h) (tyX1_ok 0 (by decide)) (Or.inl ⟨_, rfl⟩) dX1_init_12 ?_
  refine zs_aload_n hE 0 rfl rfl dX1_init_15 ?_
  refine zs_new hE (ci := 10) (fs := [.null, .int 0, .int 0]) rfl in_J3 tyJ3 tyJ3_ok q335 q336 q100 (fun j hj => by rcases (show j = 0 ∨ j = 1 ∨ j = 2 by omega) with rfl | rfl | rfl <;> rfl) dX1_init_16 (fun q2 => ?_)
  refine zs_dup hE (zcat_rf _) dX1_init_19 ?_
  refine zs_callI hE (As := []) (encA := encV) (met_J3_init K q2) q339 q100 q337 q338 rfl hd_J3_init (by decide) (by decide) rfl (by simp [zcat_rf, zcat_i, zcat_j, zcat_f, zcat_d]) (fun z hz => by cases hz) dX1_init_20 (fun _ => ?_)
  show zS _ 23 _ [va_rf (some q2), va_rf (some this)] _
  refine zs_putR hE (ci := 24) (k := 2) rfl (by decide) in_X1 (Or.inl q393) (Or.inl rfl) (Or.inr ⟨rfl, rfl, rfl⟩) (fun _ => q393) (tyX1_ok 2 (by decide)) (Or.inl ⟨_, rfl⟩) dX1_init_23 ?_
  refine zs_aload_n hE 0 rfl rfl dX1_init_26 ?_
  refine zs_new hE (ci := 21) (fs := [.null, .int 0, .int 0, .int 0]) rfl in_J5 tyJ5 tyJ5_ok q358 q359 q102 (fun j hj => by rcases (show j = 0 ∨ j = 1 ∨ j = 2 ∨ j = 3 by omega) with rfl | rfl | rfl | rfl <;> rfl) dX1_init_27 (fun q3 => ?_)
  refine zs_dup hE (zcat_rf _) dX1_init_30 ?_
  refine zs_callI hE (As := []) (encA := encV) (met_J5_init K q3) q362 q102 q360 q361 rfl hd_J5_init (by decide) (by decide) rfl (by simp [zcat_rf, zcat_i, zcat_j, zcat_f, zcat_d]) (fun z hz => by cases hz) dX1_init_31 (fun _ => ?_)
  show zS _ 34 _ [va_rf (some q3), va_rf (some this)] _
  refine zs_putR hE (ci := 24) (k := 3) rfl (by decide) in_X1 (Or.inl q394) (Or.inl rfl) (Or.inr ⟨rfl, rfl, rfl⟩) (fun _ => q394) (tyX1_ok 3 (by decide)) (Or.inl ⟨_, rfl⟩) dX1_init_34 ?_
  refine zs_aload_n hE 0 rfl rfl dX1_init_37 ?_
  refine zs_new hE (ci := 21) (fs := [.null, .int 0, .int 0, .int 0]) rfl in_J5 tyJ5 tyJ5_ok q358 q359 q102 (fun j hj => by rcases (show j = 0 ∨ j = 1 ∨ j = 2 ∨ j = 3 by omega) with rfl | rfl | rfl | rfl <;> rfl) dX1_init_38 (fun q4 => ?_)
  refine zs_dup hE (zcat_rf _) dX1_init_41 ?_
  refine zs_callI hE (As := []) (encA := encV) (met_J5_init K q4) q362 q102 q360 q361 rfl hd_J5_init (by decide) (by decide) rfl (by simp [zcat_rf, zcat_i, zcat_j, zcat_f, zcat_d]) (fun z hz => by cases hz) dX1_init_42 (fun _ => ?_)
  show zS _ 45 _ [va_rf (some q4), va_rf (some this)] _
  refine zs_putR hE (ci := 24) (k := 4) rfl (by decide) in_X1 (Or.inl q395) (Or.inl rfl) (Or.inr ⟨rfl, rfl, rfl⟩) (fun _ => q395) (tyX1_ok 4 (by decide)) (Or.inl ⟨_, rfl⟩) dX1_init_45 ?_
  refine zs_aload_n hE 0 rfl rfl dX1_init_48 ?_
  refine zs_iconst hE (v := (-1 : Int32)) (by decide) dX1_init_49 ?_
  refine zs_putI hE (ci := 24) (k := 6) rfl (by decide) in_X1 (Or.inl q397) (Or.inl rfl) (Or.inl rfl) (fun h => nomatch h) rfl dX1_init_50 ?_
  exact zs_vret hE dX1_init_53
theorem hd_X1_init : (yX1_init).cls ≠ "java/lang/invoke/MethodHandle" ∧ (yX1_init).cls ≠ "java/lang/invoke/VarHandle" ∧ (parseMethodDescriptor (yX1_init).desc).map (fun d => d.parameters.length) = some 0 := by decide +kernel
theorem met_X1_init (K : ZK) (this : Nat) : zMeth K yX1_init (zws yX1_init cX1_init 1 none) 4 160 [.ref this] encV (s_X1_init K this) :=
  fun l G hl hK => zmet_of hl hK (by decide +kernel) rfl rfl (by simp [zsl_nil, zsl_rf, zsl_r, zsl_i, zsl_j, zsl_f, zsl_d]) (fun x hE => by simp only [zla_nil, zla_rf, zla_r, zla_i, zla_j, zla_f, zla_d, Nat.reduceAdd]; exact sm_X1_init hE this)
theorem sm_X1_waiting {x : ZX Int32} {K : ZK} (hE : zE x K cX1_waiting RX1 "waiting" 1 5 187 encI (Option.some Jvm.ClassFile.FieldType.int) []) (this : Nat) : zS x 0 [(0, va_rf (some this))] [] (s_X1_waiting K this) := by
  unfold s_X1_waiting
  refine zs_aload_n hE 0 rfl rfl dX1_waiting_0 ?_
  refine zs_getR hE (ci := 24) (k := 0) rfl (by decide) in_X1 (Or.inl q391) (Or.inl rfl) dX1_waiting_1 (fun v1 => ?_)
  refine zs_callV hE (As := []) (encA := encI) (ci := 34) rfl (fun y0 => met_X2_waiting K y0) q423 q96 q420 q421 (zq q422) hd_X2_waiting (by decide) (by decide) rfl (by simp [zcat_rf, zcat_i, zcat_j, zcat_f, zcat_d]) (fun z hz => by cases hz) dX1_waiting_4 (fun r2 => ?_)
  show zS _ 7 _ [.int r2] _
  exact zs_iret hE dX1_waiting_7
theorem hd_X1_waiting : (yX1_waiting).cls ≠ "java/lang/invoke/MethodHandle" ∧ (yX1_waiting).cls ≠ "java/lang/invoke/VarHandle" ∧ (parseMethodDescriptor (yX1_waiting).desc).map (fun d => d.parameters.length) = some 0 := by decide +kernel
theorem met_X1_waiting (K : ZK) (this : Nat) : zMeth K yX1_waiting (zws yX1_waiting cX1_waiting 1 (Option.some Jvm.ClassFile.FieldType.int)) 5 187 [.ref this] encI (s_X1_waiting K this) :=
  fun l G hl hK => zmet_of hl hK (by decide +kernel) rfl rfl (by simp [zsl_nil, zsl_rf, zsl_r, zsl_i, zsl_j, zsl_f, zsl_d]) (fun x hE => by simp only [zla_nil, zla_rf, zla_r, zla_i, zla_j, zla_f, zla_d, Nat.reduceAdd]; exact sm_X1_waiting hE this)
theorem sm_X1_waitingAgain {x : ZX Int32} {K : ZK} (hE : zE x K cX1_waitingAgain RX1 "waitingAgain" 1 1 100 encI (Option.some Jvm.ClassFile.FieldType.int) []) (this : Nat) : zS x 0 [(0, va_rf (some this))] [] (s_X1_waitingAgain K this) := by
  unfold s_X1_waitingAgain
  refine zs_aload_n hE 0 rfl rfl dX1_waitingAgain_0 ?_
  refine zs_getR hE (ci := 24) (k := 0) rfl (by decide) in_X1 (Or.inl q391) (Or.inl rfl) dX1_waitingAgain_1 (fun v1 => ?_)
  refine zs_getI hE (ci := 34) (k := 9) rfl (by decide) in_X2 (Or.inr ⟨_, zn q243 rfl⟩) (Or.inl rfl) dX1_waitingAgain_4 (fun v2 => ?_)
  refine zs_aload_n hE 0 rfl rfl dX1_waitingAgain_7 ?_
  refine zs_getR hE (ci := 24) (k := 0) rfl (by decide) in_X1 (Or.inl q391) (Or.inl rfl) dX1_waitingAgain_8 (fun v3 => ?_)
  refine zs_getI hE (ci := 34) (k := 10) rfl (by decide) in_X2 (Or.inr ⟨_, zn q246 rfl⟩) (Or.inl rfl) dX1_waitingAgain_11 (fun v4 => ?_)
  refine zs_isub hE dX1_waitingAgain_14 ?_
  refine zs_aload_n hE 0 rfl rfl dX1_waitingAgain_15 ?_
  refine zs_getR hE (ci := 24) (k := 0) rfl (by decide) in_X1 (Or.inl q391) (Or.inl rfl) dX1_waitingAgain_16 (fun v5 => ?_)
  refine zs_getI hE (ci := 34) (k := 16) rfl (by decide) in_X2 (Or.inr ⟨_, zn q261 rfl⟩) (Or.inl rfl) dX1_waitingAgain_19 (fun v6 => ?_)
  refine zs_isub hE dX1_waitingAgain_22 ?_
  refine zs_aload_n hE 0 rfl rfl dX1_waitingAgain_23 ?_
  refine zs_getR hE (ci := 24) (k := 0) rfl (by decide) in_X1 (Or.inl q391) (Or.inl rfl) dX1_waitingAgain_24 (fun v7 => ?_)
  refine zs_getI hE (ci := 34) (k := 15) rfl (by decide) in_X2 (Or.inr ⟨_, zn q259 rfl⟩) (Or.inl rfl) dX1_waitingAgain_27 (fun v8 => ?_)
  refine zs_isub hE dX1_waitingAgain_30 ?_
  exact zs_iret hE dX1_waitingAgain_31
theorem hd_X1_waitingAgain : (yX1_waitingAgain).cls ≠ "java/lang/invoke/MethodHandle" ∧ (yX1_waitingAgain).cls ≠ "java/lang/invoke/VarHandle" ∧ (parseMethodDescriptor (yX1_waitingAgain).desc).map (fun d => d.parameters.length) = some 0 := by decide +kernel
theorem met_X1_waitingAgain (K : ZK) (this : Nat) : zMeth K yX1_waitingAgain (zws yX1_waitingAgain cX1_waitingAgain 1 (Option.some Jvm.ClassFile.FieldType.int)) 1 100 [.ref this] encI (s_X1_waitingAgain K this) :=
  fun l G hl hK => zmet_of hl hK (by decide +kernel) rfl rfl (by simp [zsl_nil, zsl_rf, zsl_r, zsl_i, zsl_j, zsl_f, zsl_d]) (fun x hE => by simp only [zla_nil, zla_rf, zla_r, zla_i, zla_j, zla_f, zla_d, Nat.reduceAdd]; exact sm_X1_waitingAgain hE this)
theorem sm_X1_faultPosition {x : ZX Int32} {K : ZK} (hE : zE x K cX1_faultPosition RX1 "faultPosition" 1 1 100 encI (Option.some Jvm.ClassFile.FieldType.int) []) (this : Nat) : zS x 0 [(0, va_rf (some this))] [] (s_X1_faultPosition K this) := by
  unfold s_X1_faultPosition
  refine zs_aload_n hE 0 rfl rfl dX1_faultPosition_0 ?_
  refine zs_getI hE (ci := 24) (k := 6) rfl (by decide) in_X1 (Or.inl q397) (Or.inl rfl) dX1_faultPosition_1 (fun v1 => ?_)
  exact zs_iret hE dX1_faultPosition_4
theorem hd_X1_faultPosition : (yX1_faultPosition).cls ≠ "java/lang/invoke/MethodHandle" ∧ (yX1_faultPosition).cls ≠ "java/lang/invoke/VarHandle" ∧ (parseMethodDescriptor (yX1_faultPosition).desc).map (fun d => d.parameters.length) = some 0 := by decide +kernel
theorem met_X1_faultPosition (K : ZK) (this : Nat) : zMeth K yX1_faultPosition (zws yX1_faultPosition cX1_faultPosition 1 (Option.some Jvm.ClassFile.FieldType.int)) 1 100 [.ref this] encI (s_X1_faultPosition K this) :=
  fun l G hl hK => zmet_of hl hK (by decide +kernel) rfl rfl (by simp [zsl_nil, zsl_rf, zsl_r, zsl_i, zsl_j, zsl_f, zsl_d]) (fun x hE => by simp only [zla_nil, zla_rf, zla_r, zla_i, zla_j, zla_f, zla_d, Nat.reduceAdd]; exact sm_X1_faultPosition hE this)
theorem sm_X1_tellRing_J198 {x : ZX Int32} {K : ZK} (hE : zE x K cX1_tellRing RX1 "tellRing" 3 7 236 encI (Option.some Jvm.ClassFile.FieldType.int) []) (x0 : Nat) (t0 : Option Nat) (t1 : Option Nat) : zS x 198 [(0, va_rf (some x0))] [va_rf t0, va_rf t1] (s_X1_tellRing_J198 K x0 t0 t1) := by
  unfold s_X1_tellRing_J198
  refine zs_callV hE (As := [va_rf t0]) (encA := encR) (ci := 21) rfl (fun y0 => met_J5_append K y0 t0) q1133 q102 q1396 q1131 (zq q1132) hd_J5_append (by decide) (by decide) rfl (by simp [zcat_rf, zcat_i, zcat_j, zcat_f, zcat_d]) (fun z hz => by cases hz) dX1_tellRing_198 (fun r11 => ?_)
  show zS _ 201 _ [va_rf r11] _
  refine zs_pop hE (zcat_rf _) dX1_tellRing_201 ?_
  refine zs_aload_n hE 0 rfl rfl dX1_tellRing_202 ?_
  refine zs_getR hE (ci := 24) (k := 4) rfl (by decide) in_X1 (Or.inl q395) (Or.inl rfl) dX1_tellRing_203 (fun v12 => ?_)
  refine zs_callV hE (As := []) (encA := encI) (ci := 21) rfl (fun y0 => met_J5_length K y0) q1272 q102 q1393 q1271 (zq q3297) hd_J5_length (by decide) (by decide) rfl (by simp [zcat_rf, zcat_i, zcat_j, zcat_f, zcat_d]) (fun z hz => by cases hz) dX1_tellRing_206 (fun r13 => ?_)
  show zS _ 209 _ [.int r13] _
  exact zs_iret hE dX1_tellRing_209
theorem sm_X1_tellRing_J154 {x : ZX Int32} {K : ZK} (hE : zE x K cX1_tellRing RX1 "tellRing" 3 7 236 encI (Option.some Jvm.ClassFile.FieldType.int) []) (x0 : Nat) (x1 : Option Nat) (t0 : Int32) (t1 : Option Nat) (self24 : Unit → ZP Int32) (hs24 : ∀ v : Unit, zS x 24 [(0, va_rf (some x0)), (1, va_rf x1)] [] (self24 v)) : zS x 154 [(0, va_rf (some x0)), (1, va_rf x1)] [.int t0, va_rf t1] (s_X1_tellRing_J154 K x0 x1 t0 t1 self24) := by
  unfold s_X1_tellRing_J154
  refine zs_callV hE (As := [.int t0]) (encA := encR) (ci := 21) rfl (fun y0 => met_J5_append_3 K y0 t0) q1402 q102 q1399 q1400 (zq q1401) hd_J5_append_3 (by decide) (by decide) rfl (by simp [zcat_rf, zcat_i, zcat_j, zcat_f, zcat_d]) (fun z hz => by cases hz) dX1_tellRing_154 (fun r34 => ?_)
  show zS _ 157 _ [va_rf r34] _
  refine zs_aload_n hE 0 rfl rfl dX1_tellRing_157 ?_
  refine zs_getR hE (ci := 24) (k := 0) rfl (by decide) in_X1 (Or.inl q391) (Or.inl rfl) dX1_tellRing_158 (fun v35 => ?_)
  refine zs_iconst hE (v := (2 : Int32)) (by decide) dX1_tellRing_161 ?_
  refine zs_callS hE (As := [va_rf v35, .int (2 : Int32)]) (encA := encI) (met_X1_onRingOf K v35 (2 : Int32)) q1423 q95 q1421 q1422 hd_X1_onRingOf (by decide) (by decide) rfl (by simp [zcat_rf, zcat_i, zcat_j, zcat_f, zcat_d]) (fun z hz => by cases hz) dX1_tellRing_162 (fun r36 => ?_)
  show zS _ 165 _ [.int r36, va_rf r34] _
  refine zs_callV hE (As := [.int r36]) (encA := encR) (ci := 21) rfl (fun y0 => met_J5_append_2 K y0 r36) q1227 q102 q1397 q1225 (zq q1226) hd_J5_append_2 (by decide) (by decide) rfl (by simp [zcat_rf, zcat_i, zcat_j, zcat_f, zcat_d]) (fun z hz => by cases hz) dX1_tellRing_165 (fun r37 => ?_)
  show zS _ 168 _ [va_rf r37] _
  refine zs_pop hE (zcat_rf _) dX1_tellRing_168 ?_
  refine zs_goto hE 24 (by decide) dX1_tellRing_169 ?_
  exact hs24 ()
theorem sm_X1_tellRing_J104 {x : ZX Int32} {K : ZK} (hE : zE x K cX1_tellRing RX1 "tellRing" 3 7 236 encI (Option.some Jvm.ClassFile.FieldType.int) []) (x0 : Nat) (x1 : Option Nat) (x2 : Option Nat) (t0 : Option Nat) (t1 : Option Nat) (self24 : Unit → ZP Int32) (hs24 : ∀ v : Unit, zS x 24 [(0, va_rf (some x0)), (1, va_rf x1)] [] (self24 v)) : zS x 104 [(0, va_rf (some x0)), (1, va_rf x1), (2, va_rf x2)] [va_rf t0, va_rf t1] (s_X1_tellRing_J104 K x0 x1 x2 t0 t1 self24) := by
  unfold s_X1_tellRing_J104
  refine zs_callV hE (As := [va_rf t0]) (encA := encR) (ci := 21) rfl (fun y0 => met_J5_append K y0 t0) q1133 q102 q1396 q1131 (zq q1132) hd_J5_append (by decide) (by decide) rfl (by simp [zcat_rf, zcat_i, zcat_j, zcat_f, zcat_d]) (fun z hz => by cases hz) dX1_tellRing_104 (fun r25 => ?_)
  show zS _ 107 _ [va_rf r25] _
  refine zs_pop hE (zcat_rf _) dX1_tellRing_107 ?_
  refine zs_aload_n hE 0 rfl rfl dX1_tellRing_108 ?_
  refine zs_getR hE (ci := 24) (k := 0) rfl (by decide) in_X1 (Or.inl q391) (Or.inl rfl) dX1_tellRing_109 (fun v26 => ?_)
  refine zs_getI hE (ci := 34) (k := 1) rfl (by decide) in_X2 (Or.inr ⟨_, zn q221 rfl⟩) (Or.inl rfl) dX1_tellRing_112 (fun v27 => ?_)
  refine zs_if_eq hE 169 (by decide) dX1_tellRing_115 ?_ ?_
  · refine zs_goto hE 24 (by decide) dX1_tellRing_169 ?_
    refine zs_sub [0, 1] rfl ?_
    exact hs24 ()
  · refine zs_aload_n hE 0 rfl rfl dX1_tellRing_118 ?_
    refine zs_getR hE (ci := 24) (k := 0) rfl (by decide) in_X1 (Or.inl q391) (Or.inl rfl) dX1_tellRing_119 (fun v28 => ?_)
    refine zs_getI hE (ci := 34) (k := 2) rfl (by decide) in_X2 (Or.inr ⟨_, zn q224 rfl⟩) (Or.inl rfl) dX1_tellRing_122 (fun v29 => ?_)
    refine zs_aload_n hE 2 rfl rfl dX1_tellRing_125 ?_
    refine zs_getI hE (ci := 37) (k := 0) rfl (by decide) in_X5 (Or.inr ⟨_, zn q1550 rfl⟩) (Or.inl rfl) dX1_tellRing_126 (fun v30 => ?_)
    refine zs_icmp_ne hE 169 (by decide) dX1_tellRing_129 ?_ ?_
    · refine zs_aload_n hE 0 rfl rfl dX1_tellRing_132 ?_
      refine zs_getR hE (ci := 24) (k := 4) rfl (by decide) in_X1 (Or.inl q395) (Or.inl rfl) dX1_tellRing_133 (fun v31 => ?_)
      refine zs_aload_n hE 0 rfl rfl dX1_tellRing_136 ?_
      refine zs_getR hE (ci := 24) (k := 0) rfl (by decide) in_X1 (Or.inl q391) (Or.inl rfl) dX1_tellRing_137 (fun v32 => ?_)
      refine zs_getI hE (ci := 34) (k := 1) rfl (by decide) in_X2 (Or.inr ⟨_, zn q221 rfl⟩) (Or.inl rfl) dX1_tellRing_140 (fun v33 => ?_)
      refine zs_iconst hE (v := (1 : Int32)) (by decide) dX1_tellRing_143 ?_
      refine zs_icmp_ne hE 152 (by decide) dX1_tellRing_144 ?_ ?_
      · refine zs_bipush hE (v := (84 : Int32)) (by decide) dX1_tellRing_147 ?_
        refine zs_goto hE 154 (by decide) dX1_tellRing_149 ?_
        refine zs_sub [0, 1] rfl ?_
        exact sm_X1_tellRing_J154 hE x0 x1 (84 : Int32) v31 self24 hs24
      · refine zs_bipush hE (v := (70 : Int32)) (by decide) dX1_tellRing_152 ?_
        refine zs_sub [0, 1] rfl ?_
        exact sm_X1_tellRing_J154 hE x0 x1 (70 : Int32) v31 self24 hs24
    · refine zs_goto hE 24 (by decide) dX1_tellRing_169 ?_
      refine zs_sub [0, 1] rfl ?_
      exact hs24 ()
theorem sm_X1_tellRing_J66 {x : ZX Int32} {K : ZK} (hE : zE x K cX1_tellRing RX1 "tellRing" 3 7 236 encI (Option.some Jvm.ClassFile.FieldType.int) []) (x0 : Nat) (x1 : Option Nat) (x2 : Option Nat) (t0 : Option Nat) (t1 : Option Nat) (self24 : Unit → ZP Int32) (hs24 : ∀ v : Unit, zS x 24 [(0, va_rf (some x0)), (1, va_rf x1)] [] (self24 v)) : zS x 66 [(0, va_rf (some x0)), (1, va_rf x1), (2, va_rf x2)] [va_rf t0, va_rf t1] (s_X1_tellRing_J66 K x0 x1 x2 t0 t1 self24) := by
  unfold s_X1_tellRing_J66
  refine zs_callV hE (As := [va_rf t0]) (encA := encR) (ci := 21) rfl (fun y0 => met_J5_append K y0 t0) q1133 q102 q1396 q1131 (zq q1132) hd_J5_append (by decide) (by decide) rfl (by simp [zcat_rf, zcat_i, zcat_j, zcat_f, zcat_d]) (fun z hz => by cases hz) dX1_tellRing_66 (fun r18 => ?_)
  show zS _ 69 _ [va_rf r18] _
  refine zs_aload_n hE 2 rfl rfl dX1_tellRing_69 ?_
  refine zs_getI hE (ci := 37) (k := 0) rfl (by decide) in_X5 (Or.inr ⟨_, zn q1550 rfl⟩) (Or.inl rfl) dX1_tellRing_70 (fun v19 => ?_)
  refine zs_callV hE (As := [.int v19]) (encA := encR) (ci := 21) rfl (fun y0 => met_J5_append_2 K y0 v19) q1227 q102 q1397 q1225 (zq q1226) hd_J5_append_2 (by decide) (by decide) rfl (by simp [zcat_rf, zcat_i, zcat_j, zcat_f, zcat_d]) (fun z hz => by cases hz) dX1_tellRing_73 (fun r20 => ?_)
  show zS _ 76 _ [va_rf r20] _
  refine zs_pop hE (zcat_rf _) dX1_tellRing_76 ?_
  refine zs_aload_n hE 0 rfl rfl dX1_tellRing_77 ?_
  refine zs_getR hE (ci := 24) (k := 4) rfl (by decide) in_X1 (Or.inl q395) (Or.inl rfl) dX1_tellRing_78 (fun v21 => ?_)
  refine zs_aload_n hE 2 rfl rfl dX1_tellRing_81 ?_
  refine zs_getI hE (ci := 37) (k := 0) rfl (by decide) in_X5 (Or.inr ⟨_, zn q1550 rfl⟩) (Or.inl rfl) dX1_tellRing_82 (fun v22 => ?_)
  refine zs_aload_n hE 0 rfl rfl dX1_tellRing_85 ?_
  refine zs_getR hE (ci := 24) (k := 0) rfl (by decide) in_X1 (Or.inl q391) (Or.inl rfl) dX1_tellRing_86 (fun v23 => ?_)
  refine zs_getI hE (ci := 34) (k := 6) rfl (by decide) in_X2 (Or.inr ⟨_, zn q235 rfl⟩) (Or.inl rfl) dX1_tellRing_89 (fun v24 => ?_)
  refine zs_icmp_ne hE 101 (by decide) dX1_tellRing_92 ?_ ?_
  · refine zs_ldcwS hE (i := 12) (by simp [zSR]; first | done | exact ⟨rfl, rfl⟩) dX1_tellRing_95 ?_
    refine zs_goto hE 104 (by decide) dX1_tellRing_98 ?_
    exact sm_X1_tellRing_J104 hE x0 x1 x2 (some (K.1 12)) v21 self24 hs24
  · refine zs_ldcwS hE (i := 11) (by simp [zSR]; first | done | exact ⟨rfl, rfl⟩) dX1_tellRing_101 ?_
    exact sm_X1_tellRing_J104 hE x0 x1 x2 (some (K.1 11)) v21 self24 hs24
theorem sm_X1_tellRing_B24 {x : ZX Int32} {K : ZK} (hE : zE x K cX1_tellRing RX1 "tellRing" 3 7 236 encI (Option.some Jvm.ClassFile.FieldType.int) []) (x0 : Nat) (x1 : Option Nat) (self24 : Unit → ZP Int32) (hs24 : ∀ v : Unit, zS x 24 [(0, va_rf (some x0)), (1, va_rf x1)] [] (self24 v)) : zS x 24 [(0, va_rf (some x0)), (1, va_rf x1)] [] (s_X1_tellRing_B24 K x0 x1 self24) := by
  unfold s_X1_tellRing_B24
  refine zs_aload_n hE 1 rfl rfl dX1_tellRing_24 ?_
  refine zs_callF hE (xx := ⟨"java/util/Iterator", "hasNext", "()Z"⟩) (As := []) (encA := encI) (ci := 8) rfl (fun y0 => met_J26_hasNext__J28 K y0) q875 q127 q1389 (List.mem_of_getElem? (i := 1) rfl) q873 q883 hdx_h2 (by decide) (by decide) rfl (by simp [zcat_rf, zcat_i, zcat_j, zcat_f, zcat_d]) (fun z hz => by cases hz) dX1_tellRing_25 (fun r6 => ?_)
  show zS _ 30 _ [.int r6] _
  refine zs_if_eq hE 172 (by decide) dX1_tellRing_30 ?_ ?_
  · refine zs_aload_n hE 0 rfl rfl dX1_tellRing_172 ?_
    refine zs_getR hE (ci := 24) (k := 4) rfl (by decide) in_X1 (Or.inl q395) (Or.inl rfl) dX1_tellRing_173 (fun v7 => ?_)
    refine zs_aload_n hE 0 rfl rfl dX1_tellRing_176 ?_
    refine zs_getR hE (ci := 24) (k := 0) rfl (by decide) in_X1 (Or.inl q391) (Or.inl rfl) dX1_tellRing_177 (fun v8 => ?_)
    refine zs_getR hE (ci := 34) (k := 0) rfl (by decide) in_X2 (Or.inr ⟨_, zn q218 rfl⟩) (Or.inl rfl) dX1_tellRing_180 (fun v9 => ?_)
    refine zs_callU hE (xx := ⟨"java/util/TreeMap", "isEmpty", "()Z"⟩) (owner := "java/util/AbstractMap") (As := []) (encA := encI) (ci := 0) rfl (fun y0 => met_J0_isEmpty__J1 K y0) q1432 q97 q1427 q1428 (Or.inl (zn q1429 rfl)) (by decide) q1431 q1430 ⟨(hd_J0_isEmpty__J1).1, (hd_J0_isEmpty__J1).2.1, (hdx_h6).2.2⟩ (by decide) (by decide) rfl (by simp [zcat_rf, zcat_i, zcat_j, zcat_f, zcat_d]) (fun z hz => by cases hz) dX1_tellRing_183 (fun r10 => ?_)
    show zS _ 186 _ [.int r10, va_rf v7] _
    refine zs_if_eq hE 195 (by decide) dX1_tellRing_186 ?_ ?_
    · refine zs_ldcwS hE (i := 11) (by simp [zSR]; first | done | exact ⟨rfl, rfl⟩) dX1_tellRing_195 ?_
      refine zs_sub [0] rfl ?_
      exact sm_X1_tellRing_J198 hE x0 (some (K.1 11)) v7
    · refine zs_ldcwS hE (i := 13) (by simp [zSR]; first | done | exact ⟨rfl, rfl⟩) dX1_tellRing_189 ?_
      refine zs_goto hE 198 (by decide) dX1_tellRing_192 ?_
      refine zs_sub [0] rfl ?_
      exact sm_X1_tellRing_J198 hE x0 (some (K.1 13)) v7
  · refine zs_aload_n hE 1 rfl rfl dX1_tellRing_33 ?_
    refine zs_callF hE (xx := ⟨"java/util/Iterator", "next", "()Ljava/lang/Object;"⟩) (As := []) (encA := encR) (ci := 8) rfl (fun y0 => met_J28_next K y0) q1094 q129 q1391 (List.mem_of_getElem? (i := 2) rfl) q1092 q1090 hdx_h4 (by decide) (by decide) rfl (by simp [zcat_rf, zcat_i, zcat_j, zcat_f, zcat_d]) (fun z hz => by cases hz) dX1_tellRing_34 (fun r14 => ?_)
    show zS _ 39 _ [va_rf r14] _
    refine zs_cast hE q1392 (zc1 rfl (Or.inl rfl)) dX1_tellRing_39 ?_
    refine zs_astore_n hE (i := 2) (q := 2) rfl (by decide) (zcat_rf x1) (lv' := [(0, va_rf (some x0)), (1, va_rf x1)]) rfl dX1_tellRing_42 ?_
    refine zs_aload_n hE 1 rfl rfl dX1_tellRing_43 ?_
    refine zs_getR hE (ci := 24) (k := 4) rfl (by decide) in_X1 (Or.inl q395) (Or.inl rfl) dX1_tellRing_44 (fun v15 => ?_)
    refine zs_aload_n hE 1 rfl rfl dX1_tellRing_47 ?_
    refine zs_getR hE (ci := 24) (k := 4) rfl (by decide) in_X1 (Or.inl q395) (Or.inl rfl) dX1_tellRing_48 (fun v16 => ?_)
    refine zs_callV hE (As := []) (encA := encI) (ci := 21) rfl (fun y0 => met_J5_length K y0) q1272 q102 q1393 q1271 (zq q3297) hd_J5_length (by decide) (by decide) rfl (by simp [zcat_rf, zcat_i, zcat_j, zcat_f, zcat_d]) (fun z hz => by cases hz) dX1_tellRing_51 (fun r17 => ?_)
    show zS _ 54 _ [.int r17, va_rf v15] _
    refine zs_if_le hE 63 (by decide) dX1_tellRing_54 ?_ ?_
    · refine zs_ldcwS hE (i := 11) (by simp [zSR]; first | done | exact ⟨rfl, rfl⟩) dX1_tellRing_63 ?_
      refine zs_sub [1, 2, 0] rfl ?_
      exact sm_X1_tellRing_J66 hE x0 x1 r14 (some (K.1 11)) v15 self24 hs24
    · refine zs_ldcwS hE (i := 10) (by simp [zSR]; first | done | exact ⟨rfl, rfl⟩) dX1_tellRing_57 ?_
      refine zs_goto hE 66 (by decide) dX1_tellRing_60 ?_
      refine zs_sub [1, 2, 0] rfl ?_
      exact sm_X1_tellRing_J66 hE x0 x1 r14 (some (K.1 10)) v15 self24 hs24
theorem sm_X1_tellRing_L24 {x : ZX Int32} {K : ZK} (hE : zE x K cX1_tellRing RX1 "tellRing" 3 7 236 encI (Option.some Jvm.ClassFile.FieldType.int) []) (x0 : Nat) (x1 : Option Nat) (v : Unit) : zS x 24 [(0, va_rf (some x0)), (1, va_rf x1)] [] (s_X1_tellRing_L24 K x0 x1 v) := by
  unfold s_X1_tellRing_L24
  exact zs_loop (lvf := fun v => [(0, va_rf (some x0)), (1, va_rf x1)]) (fun self24 hs24 v => sm_X1_tellRing_B24 hE x0 x1 self24 hs24) v
theorem sm_X1_tellRing {x : ZX Int32} {K : ZK} (hE : zE x K cX1_tellRing RX1 "tellRing" 3 7 236 encI (Option.some Jvm.ClassFile.FieldType.int) []) (this : Nat) : zS x 0 [(0, va_rf (some this))] [] (s_X1_tellRing K this) := by
  unfold s_X1_tellRing
  refine zs_aload_n hE 0 rfl rfl dX1_tellRing_0 ?_
  refine zs_getR hE (ci := 24) (k := 4) rfl (by decide) in_X1 (Or.inl q395) (Or.inl rfl) dX1_tellRing_1 (fun v1 => ?_)
  refine zs_iconst hE (v := (0 : Int32)) (by decide) dX1_tellRing_4 ?_
  refine zs_callV hE (As := [.int (0 : Int32)]) (encA := encV) (ci := 21) rfl (fun y0 => met_J5_setLength K y0 (0 : Int32)) q1118 q102 q1115 q1116 (zq q1117) hd_J5_setLength (by decide) (by decide) rfl (by simp [zcat_rf, zcat_i, zcat_j, zcat_f, zcat_d]) (fun z hz => by cases hz) dX1_tellRing_5 (fun _ => ?_)
  show zS _ 8 _ [] _
  refine zs_aload_n hE 0 rfl rfl dX1_tellRing_8 ?_
  refine zs_getR hE (ci := 24) (k := 0) rfl (by decide) in_X1 (Or.inl q391) (Or.inl rfl) dX1_tellRing_9 (fun v2 => ?_)
  refine zs_getR hE (ci := 34) (k := 0) rfl (by decide) in_X2 (Or.inr ⟨_, zn q218 rfl⟩) (Or.inl rfl) dX1_tellRing_12 (fun v3 => ?_)
  refine zs_callV hE (As := []) (encA := encR) (ci := 0) rfl (fun y0 => met_J1_values K y0) q427 q98 q1385 q425 (zq q426) hd_J1_values (by decide) (by decide) rfl (by simp [zcat_rf, zcat_i, zcat_j, zcat_f, zcat_d]) (fun z hz => by cases hz) dX1_tellRing_15 (fun r4 => ?_)
  show zS _ 18 _ [va_rf r4] _
  refine zs_callF hE (xx := ⟨"java/util/Collection", "iterator", "()Ljava/util/Iterator;"⟩) (As := []) (encA := encR) (ci := 3) rfl (fun y0 => met_J21_iterator K y0) q831 q122 q1387 (List.mem_of_getElem? (i := 0) rfl) q829 q827 hdx_h1 (by decide) (by decide) rfl (by simp [zcat_rf, zcat_i, zcat_j, zcat_f, zcat_d]) (fun z hz => by cases hz) dX1_tellRing_18 (fun r5 => ?_)
  show zS _ 23 _ [va_rf r5] _
  refine zs_astore_n hE (i := 1) (q := 1) rfl (by decide) (zcat_rf (some this)) (lv' := [(0, va_rf (some this))]) rfl dX1_tellRing_23 ?_
  refine zs_sub [1, 0] rfl ?_
  exact sm_X1_tellRing_L24 hE this r5 ()
theorem hd_X1_tellRing : (yX1_tellRing).cls ≠ "java/lang/invoke/MethodHandle" ∧ (yX1_tellRing).cls ≠ "java/lang/invoke/VarHandle" ∧ (parseMethodDescriptor (yX1_tellRing).desc).map (fun d => d.parameters.length) = some 0 := by decide +kernel
theorem met_X1_tellRing (K : ZK) (this : Nat) : zMeth K yX1_tellRing (zws yX1_tellRing cX1_tellRing 3 (Option.some Jvm.ClassFile.FieldType.int)) 7 236 [.ref this] encI (s_X1_tellRing K this) :=
  fun l G hl hK => zmet_of hl hK (by decide +kernel) rfl rfl (by simp [zsl_nil, zsl_rf, zsl_r, zsl_i, zsl_j, zsl_f, zsl_d]) (fun x hE => by simp only [zla_nil, zla_rf, zla_r, zla_i, zla_j, zla_f, zla_d, Nat.reduceAdd]; exact sm_X1_tellRing hE this)
theorem sm_X1_save {x : ZX Int32} {K : ZK} (hE : zE x K cX1_save RX1 "save" 1 10 298 encI (Option.some Jvm.ClassFile.FieldType.int) []) (this : Nat) : zS x 0 [(0, va_rf (some this))] [] (s_X1_save K this) := by
  unfold s_X1_save
  refine zs_aload_n hE 0 rfl rfl dX1_save_0 ?_
  refine zs_aload_n hE 0 rfl rfl dX1_save_1 ?_
  refine zs_getR hE (ci := 24) (k := 0) rfl (by decide) in_X1 (Or.inl q391) (Or.inl rfl) dX1_save_2 (fun v1 => ?_)
  refine zs_callV hE (As := []) (encA := encR) (ci := 34) rfl (fun y0 => met_X2_copy K y0) q1507 q96 q1504 q1505 (zq q1506) hd_X2_copy (by decide) (by decide) rfl (by simp [zcat_rf, zcat_i, zcat_j, zcat_f, zcat_d]) (fun z hz => by cases hz) dX1_save_5 (fun r2 => ?_)
  show zS _ 8 _ [va_rf r2, va_rf (some this)] _
  refine zs_putR hE (ci := 24) (k := 1) rfl (by decide) in_X1 (Or.inl q392) (Or.inl rfl) (Or.inl rfl) (fun h => nomatch h) (tyX1_ok 1 (by decide)) (Or.inl ⟨_, rfl⟩) dX1_save_8 ?_
  refine zs_aload_n hE 0 rfl rfl dX1_save_11 ?_
  refine zs_getR hE (ci := 24) (k := 0) rfl (by decide) in_X1 (Or.inl q391) (Or.inl rfl) dX1_save_12 (fun v3 => ?_)
  refine zs_getI hE (ci := 34) (k := 8) rfl (by decide) in_X2 (Or.inr ⟨_, zn q241 rfl⟩) (Or.inl rfl) dX1_save_15 (fun v4 => ?_)
  exact zs_iret hE dX1_save_18
theorem hd_X1_save : (yX1_save).cls ≠ "java/lang/invoke/MethodHandle" ∧ (yX1_save).cls ≠ "java/lang/invoke/VarHandle" ∧ (parseMethodDescriptor (yX1_save).desc).map (fun d => d.parameters.length) = some 0 := by decide +kernel
theorem met_X1_save (K : ZK) (this : Nat) : zMeth K yX1_save (zws yX1_save cX1_save 1 (Option.some Jvm.ClassFile.FieldType.int)) 10 298 [.ref this] encI (s_X1_save K this) :=
  fun l G hl hK => zmet_of hl hK (by decide +kernel) rfl rfl (by simp [zsl_nil, zsl_rf, zsl_r, zsl_i, zsl_j, zsl_f, zsl_d]) (fun x hE => by simp only [zla_nil, zla_rf, zla_r, zla_i, zla_j, zla_f, zla_d, Nat.reduceAdd]; exact sm_X1_save hE this)
theorem sm_X3_init {x : ZX Unit} {K : ZK} (hE : zE x K cX3_init RX3 "<init>" 1 1 100 encV none []) (this : Nat) : zS x 0 [(0, va_rf (some this))] [] (s_X3_init K this) := by
  unfold s_X3_init
  refine zs_aload_n hE 0 rfl rfl dX3_init_0 ?_
  refine zs_objInit hE q2828 q169 q170 (by decide) (by first | decide | simp [zcat_rf, zcat_i, zcat_j, zcat_f, zcat_d]) dX3_init_1 ?_
  refine zs_aload_n hE 0 rfl rfl dX3_init_4 ?_
  refine zs_sipush hE (v := (671 : Int32)) (by decide) dX3_init_5 ?_
  refine zs_newA hE 0 (at0 := .int) q2908 rfl rfl (by decide) (fun _ _ h => h) (fun _ => rfl) (by decide) dX3_init_8 (fun q1 => ?_)
  refine zs_putR hE (ci := 35) (k := 0) rfl (by decide) in_X3 (Or.inl q2829) (Or.inl rfl) (Or.inr ⟨rfl, rfl, rfl⟩) (fun _ => q2829) (tyX3_ok 0 (by decide)) (Or.inr ⟨_, rfl⟩) dX3_init_10 ?_
  refine zs_aload_n hE 0 rfl rfl dX3_init_13 ?_
  refine zs_sipush hE (v := (671 : Int32)) (by decide) dX3_init_14 ?_
  refine zs_newA hE 0 (at0 := .int) q2908 rfl rfl (by decide) (fun _ _ h => h) (fun _ => rfl) (by decide) dX3_init_17 (fun q2 => ?_)
  refine zs_putR hE (ci := 35) (k := 1) rfl (by decide) in_X3 (Or.inl q2830) (Or.inl rfl) (Or.inr ⟨rfl, rfl, rfl⟩) (fun _ => q2830) (tyX3_ok 1 (by decide)) (Or.inr ⟨_, rfl⟩) dX3_init_19 ?_
  refine zs_aload_n hE 0 rfl rfl dX3_init_22 ?_
  refine zs_sipush hE (v := (671 : Int32)) (by decide) dX3_init_23 ?_
  refine zs_newA hE 0 (at0 := .int) q2908 rfl rfl (by decide) (fun _ _ h => h) (fun _ => rfl) (by decide) dX3_init_26 (fun q3 => ?_)
  refine zs_putR hE (ci := 35) (k := 2) rfl (by decide) in_X3 (Or.inl q2831) (Or.inl rfl) (Or.inr ⟨rfl, rfl, rfl⟩) (fun _ => q2831) (tyX3_ok 2 (by decide)) (Or.inr ⟨_, rfl⟩) dX3_init_28 ?_
  refine zs_aload_n hE 0 rfl rfl dX3_init_31 ?_
  refine zs_sipush hE (v := (671 : Int32)) (by decide) dX3_init_32 ?_
  refine zs_newA hE 0 (at0 := .int) q2908 rfl rfl (by decide) (fun _ _ h => h) (fun _ => rfl) (by decide) dX3_init_35 (fun q4 => ?_)
  refine zs_putR hE (ci := 35) (k := 3) rfl (by decide) in_X3 (Or.inl q2832) (Or.inl rfl) (Or.inr ⟨rfl, rfl, rfl⟩) (fun _ => q2832) (tyX3_ok 3 (by decide)) (Or.inr ⟨_, rfl⟩) dX3_init_37 ?_
  refine zs_aload_n hE 0 rfl rfl dX3_init_40 ?_
  refine zs_sipush hE (v := (5368 : Int32)) (by decide) dX3_init_41 ?_
  refine zs_newA hE 0 (at0 := .int) q2908 rfl rfl (by decide) (fun _ _ h => h) (fun _ => rfl) (by decide) dX3_init_44 (fun q5 => ?_)
  refine zs_putR hE (ci := 35) (k := 4) rfl (by decide) in_X3 (Or.inl q2833) (Or.inl rfl) (Or.inr ⟨rfl, rfl, rfl⟩) (fun _ => q2833) (tyX3_ok 4 (by decide)) (Or.inr ⟨_, rfl⟩) dX3_init_46 ?_
  refine zs_aload_n hE 0 rfl rfl dX3_init_49 ?_
  refine zs_iconst hE (v := (0 : Int32)) (by decide) dX3_init_50 ?_
  refine zs_putI hE (ci := 35) (k := 5) rfl (by decide) in_X3 (Or.inl q2834) (Or.inl rfl) (Or.inl rfl) (fun h => nomatch h) rfl dX3_init_51 ?_
  refine zs_aload_n hE 0 rfl rfl dX3_init_54 ?_
  refine zs_iconst hE (v := (0 : Int32)) (by decide) dX3_init_55 ?_
  refine zs_putI hE (ci := 35) (k := 6) rfl (by decide) in_X3 (Or.inl q2835) (Or.inl rfl) (Or.inl rfl) (fun h => nomatch h) rfl dX3_init_56 ?_
  refine zs_aload_n hE 0 rfl rfl dX3_init_59 ?_
  refine zs_iconst hE (v := (0 : Int32)) (by decide) dX3_init_60 ?_
  refine zs_putI hE (ci := 35) (k := 7) rfl (by decide) in_X3 (Or.inl q2836) (Or.inl rfl) (Or.inl rfl) (fun h => nomatch h) rfl dX3_init_61 ?_
  refine zs_aload_n hE 0 rfl rfl dX3_init_64 ?_
  refine zs_iconst hE (v := (0 : Int32)) (by decide) dX3_init_65 ?_
  refine zs_putI hE (ci := 35) (k := 8) rfl (by decide) in_X3 (Or.inl q2837) (Or.inl rfl) (Or.inl rfl) (fun h => nomatch h) rfl dX3_init_66 ?_
  refine zs_aload_n hE 0 rfl rfl dX3_init_69 ?_
  refine zs_iconst hE (v := (0 : Int32)) (by decide) dX3_init_70 ?_
  refine zs_putI hE (ci := 35) (k := 9) rfl (by decide) in_X3 (Or.inl q2838) (Or.inl rfl) (Or.inl rfl) (fun h => nomatch h) rfl dX3_init_71 ?_
  refine zs_aload_n hE 0 rfl rfl dX3_init_74 ?_
  refine zs_iconst hE (v := (0 : Int32)) (by decide) dX3_init_75 ?_
  refine zs_putI hE (ci := 35) (k := 10) rfl (by decide) in_X3 (Or.inl q2839) (Or.inl rfl) (Or.inl rfl) (fun h => nomatch h) rfl dX3_init_76 ?_
  refine zs_aload_n hE 0 rfl rfl dX3_init_79 ?_
  refine zs_iconst hE (v := (0 : Int32)) (by decide) dX3_init_80 ?_
  refine zs_putI hE (ci := 35) (k := 11) rfl (by decide) in_X3 (Or.inl q2840) (Or.inl rfl) (Or.inl rfl) (fun h => nomatch h) rfl dX3_init_81 ?_
  refine zs_aload_n hE 0 rfl rfl dX3_init_84 ?_
  refine zs_iconst hE (v := (0 : Int32)) (by decide) dX3_init_85 ?_
  refine zs_putI hE (ci := 35) (k := 12) rfl (by decide) in_X3 (Or.inl q2841) (Or.inl rfl) (Or.inl rfl) (fun h => nomatch h) rfl dX3_init_86 ?_
  refine zs_aload_n hE 0 rfl rfl dX3_init_89 ?_
  refine zs_iconst hE (v := (-1 : Int32)) (by decide) dX3_init_90 ?_
  refine zs_putI hE (ci := 35) (k := 13) rfl (by decide) in_X3 (Or.inl q2842) (Or.inl rfl) (Or.inl rfl) (fun h => nomatch h) rfl dX3_init_91 ?_
  refine zs_aload_n hE 0 rfl rfl dX3_init_94 ?_
  refine zs_iconst hE (v := (0 : Int32)) (by decide) dX3_init_95 ?_
  refine zs_putT hE (ci := 35) (k := 14) rfl (by decide) in_X3 (Or.inl q2843) (Or.inl rfl) (Or.inl rfl) (fun h => nomatch h) rfl dX3_init_96 ?_
  refine zs_aload_n hE 0 rfl rfl dX3_init_99 ?_
  refine zs_bipush hE (v := (60 : Int32)) (by decide) dX3_init_100 ?_
  refine zs_newA hE 0 (at0 := .int) q2908 rfl rfl (by decide) (fun _ _ h => h) (fun _ => rfl) (by decide) dX3_init_102 (fun q6 => ?_)
  refine zs_putR hE (ci := 35) (k := 15) rfl (by decide) in_X3 (Or.inl q2844) (Or.inl rfl) (Or.inr ⟨rfl, rfl, rfl⟩) (fun _ => q2844) (tyX3_ok 15 (by decide)) (Or.inr ⟨_, rfl⟩) dX3_init_104 ?_
  refine zs_aload_n hE 0 rfl rfl dX3_init_107 ?_
  refine zs_bipush hE (v := (32 : Int32)) (by decide) dX3_init_108 ?_
  refine zs_newA hE 0 (at0 := .int) q2908 rfl rfl (by decide) (fun _ _ h => h) (fun _ => rfl) (by decide) dX3_init_110 (fun q7 => ?_)
  refine zs_putR hE (ci := 35) (k := 16) rfl (by decide) in_X3 (Or.inl q2845) (Or.inl rfl) (Or.inr ⟨rfl, rfl, rfl⟩) (fun _ => q2845) (tyX3_ok 16 (by decide)) (Or.inr ⟨_, rfl⟩) dX3_init_112 ?_
  refine zs_aload_n hE 0 rfl rfl dX3_init_115 ?_
  refine zs_bipush hE (v := (32 : Int32)) (by decide) dX3_init_116 ?_
  refine zs_newA hE 0 (at0 := .int) q2908 rfl rfl (by decide) (fun _ _ h => h) (fun _ => rfl) (by decide) dX3_init_118 (fun q8 => ?_)
  refine zs_putR hE (ci := 35) (k := 17) rfl (by decide) in_X3 (Or.inl q2846) (Or.inl rfl) (Or.inr ⟨rfl, rfl, rfl⟩) (fun _ => q2846) (tyX3_ok 17 (by decide)) (Or.inr ⟨_, rfl⟩) dX3_init_120 ?_
  refine zs_aload_n hE 0 rfl rfl dX3_init_123 ?_
  refine zs_bipush hE (v := (32 : Int32)) (by decide) dX3_init_124 ?_
  refine zs_newA hE 0 (at0 := .int) q2908 rfl rfl (by decide) (fun _ _ h => h) (fun _ => rfl) (by decide) dX3_init_126 (fun q9 => ?_)
  refine zs_putR hE (ci := 35) (k := 18) rfl (by decide) in_X3 (Or.inl q2847) (Or.inl rfl) (Or.inr ⟨rfl, rfl, rfl⟩) (fun _ => q2847) (tyX3_ok 18 (by decide)) (Or.inr ⟨_, rfl⟩) dX3_init_128 ?_
  refine zs_aload_n hE 0 rfl rfl dX3_init_131 ?_
  refine zs_bipush hE (v := (32 : Int32)) (by decide) dX3_init_132 ?_
  refine zs_newA hE 0 (at0 := .int) q2908 rfl rfl (by decide) (fun _ _ h => h) (fun _ => rfl) (by decide) dX3_init_134 (fun q10 => ?_)
  refine zs_putR hE (ci := 35) (k := 19) rfl (by decide) in_X3 (Or.inl q2848) (Or.inl rfl) (Or.inr ⟨rfl, rfl, rfl⟩) (fun _ => q2848) (tyX3_ok 19 (by decide)) (Or.inr ⟨_, rfl⟩) dX3_init_136 ?_
  refine zs_aload_n hE 0 rfl rfl dX3_init_139 ?_
  refine zs_iconst hE (v := (0 : Int32)) (by decide) dX3_init_140 ?_
  refine zs_putI hE (ci := 35) (k := 20) rfl (by decide) in_X3 (Or.inl q2849) (Or.inl rfl) (Or.inl rfl) (fun h => nomatch h) rfl dX3_init_141 ?_
  refine zs_aload_n hE 0 rfl rfl dX3_init_144 ?_
  refine zs_iconst hE (v := (0 : Int32)) (by decide) dX3_init_145 ?_
  refine zs_putI hE (ci := 35) (k := 21) rfl (by decide) in_X3 (Or.inl q2850) (Or.inl rfl) (Or.inl rfl) (fun h => nomatch h) rfl dX3_init_146 ?_
  refine zs_aload_n hE 0 rfl rfl dX3_init_149 ?_
  refine zs_iconst hE (v := (0 : Int32)) (by decide) dX3_init_150 ?_
  refine zs_putI hE (ci := 35) (k := 22) rfl (by decide) in_X3 (Or.inl q2851) (Or.inl rfl) (Or.inl rfl) (fun h => nomatch h) rfl dX3_init_151 ?_
  refine zs_aload_n hE 0 rfl rfl dX3_init_154 ?_
  refine zs_iconst hE (v := (0 : Int32)) (by decide) dX3_init_155 ?_
  refine zs_putT hE (ci := 35) (k := 23) rfl (by decide) in_X3 (Or.inl q2852) (Or.inl rfl) (Or.inl rfl) (fun h => nomatch h) rfl dX3_init_156 ?_
  refine zs_aload_n hE 0 rfl rfl dX3_init_159 ?_
  refine zs_bipush hE (v := (120 : Int32)) (by decide) dX3_init_160 ?_
  refine zs_newA hE 0 (at0 := .int) q2908 rfl rfl (by decide) (fun _ _ h => h) (fun _ => rfl) (by decide) dX3_init_162 (fun q11 => ?_)
  refine zs_putR hE (ci := 35) (k := 24) rfl (by decide) in_X3 (Or.inl q2853) (Or.inl rfl) (Or.inr ⟨rfl, rfl, rfl⟩) (fun _ => q2853) (tyX3_ok 24 (by decide)) (Or.inr ⟨_, rfl⟩) dX3_init_164 ?_
  refine zs_aload_n hE 0 rfl rfl dX3_init_167 ?_
  refine zs_iconst hE (v := (0 : Int32)) (by decide) dX3_init_168 ?_
  refine zs_putI hE (ci := 35) (k := 25) rfl (by decide) in_X3 (Or.inl q2854) (Or.inl rfl) (Or.inl rfl) (fun h => nomatch h) rfl dX3_init_169 ?_
  refine zs_aload_n hE 0 rfl rfl dX3_init_172 ?_
  refine zs_getR hE (ci := 35) (k := 0) rfl (by decide) in_X3 (Or.inl q2829) (Or.inl rfl) dX3_init_173 (fun v12 => ?_)
  refine zs_iconst hE (v := (2 : Int32)) (by decide) dX3_init_176 ?_
  refine zs_iconst hE (v := (-1 : Int32)) (by decide) dX3_init_177 ?_
  refine zs_ast hE dX3_init_178 ?_
  exact zs_vret hE dX3_init_179
theorem hd_X3_init : (yX3_init).cls ≠ "java/lang/invoke/MethodHandle" ∧ (yX3_init).cls ≠ "java/lang/invoke/VarHandle" ∧ (parseMethodDescriptor (yX3_init).desc).map (fun d => d.parameters.length) = some 0 := by decide +kernel
theorem met_X3_init (K : ZK) (this : Nat) : zMeth K yX3_init (zws yX3_init cX3_init 1 none) 1 100 [.ref this] encV (s_X3_init K this) :=
  fun l G hl hK => zmet_of hl hK (by decide +kernel) rfl rfl (by simp [zsl_nil, zsl_rf, zsl_r, zsl_i, zsl_j, zsl_f, zsl_d]) (fun x hE => by simp only [zla_nil, zla_rf, zla_r, zla_i, zla_j, zla_f, zla_d, Nat.reduceAdd]; exact sm_X3_init hE this)
theorem sm_X3_thrown {x : ZX Int32} {K : ZK} (hE : zE x K cX3_thrown RX3 "thrown" 1 1 100 encI (Option.some Jvm.ClassFile.FieldType.int) []) (this : Nat) : zS x 0 [(0, va_rf (some this))] [] (s_X3_thrown K this) := by
  unfold s_X3_thrown
  refine zs_aload_n hE 0 rfl rfl dX3_thrown_0 ?_
  refine zs_getI hE (ci := 35) (k := 5) rfl (by decide) in_X3 (Or.inl q2834) (Or.inl rfl) dX3_thrown_1 (fun v1 => ?_)
  exact zs_iret hE dX3_thrown_4
theorem hd_X3_thrown : (yX3_thrown).cls ≠ "java/lang/invoke/MethodHandle" ∧ (yX3_thrown).cls ≠ "java/lang/invoke/VarHandle" ∧ (parseMethodDescriptor (yX3_thrown).desc).map (fun d => d.parameters.length) = some 0 := by decide +kernel
theorem met_X3_thrown (K : ZK) (this : Nat) : zMeth K yX3_thrown (zws yX3_thrown cX3_thrown 1 (Option.some Jvm.ClassFile.FieldType.int)) 1 100 [.ref this] encI (s_X3_thrown K this) :=
  fun l G hl hK => zmet_of hl hK (by decide +kernel) rfl rfl (by simp [zsl_nil, zsl_rf, zsl_r, zsl_i, zsl_j, zsl_f, zsl_d]) (fun x hE => by simp only [zla_nil, zla_rf, zla_r, zla_i, zla_j, zla_f, zla_d, Nat.reduceAdd]; exact sm_X3_thrown hE this)
theorem sm_X3_copies_B3 {x : ZX Unit} {K : ZK} (hE : zE x K cX3_copies RX3 "copies" 5 1 100 encV none []) (x0 : Option Nat) (x1 : Int32) (x2 : Option Nat) (x3 : Int32) (self3 : Int32 → ZP Unit) (hs3 : ∀ v : Int32, zS x 3 [(0, va_rf x0), (1, .int x1), (2, va_rf x2), (3, .int x3), (4, .int v)] [] (self3 v)) (x4 : Int32) : zS x 3 [(0, va_rf x0), (1, .int x1), (2, va_rf x2), (3, .int x3), (4, .int x4)] [] (s_X3_copies_B3 K x0 x1 x2 x3 self3 x4) := by
  unfold s_X3_copies_B3
  refine zs_iload hE 4 rfl dX3_copies_3 ?_
  refine zs_sipush hE (v := (671 : Int32)) (by decide) dX3_copies_5 ?_
  refine zs_icmp_ge hE 29 (by decide) dX3_copies_8 ?_ ?_
  · exact zs_vret hE dX3_copies_29
  · refine zs_aload_n hE 2 rfl rfl dX3_copies_11 ?_
    refine zs_iload_n hE 3 rfl rfl dX3_copies_12 ?_
    refine zs_iload hE 4 rfl dX3_copies_13 ?_
    refine zs_iadd hE dX3_copies_15 ?_
    refine zs_aload_n hE 0 rfl rfl dX3_copies_16 ?_
    refine zs_iload_n hE 1 rfl rfl dX3_copies_17 ?_
    refine zs_iload hE 4 rfl dX3_copies_18 ?_
    refine zs_iadd hE dX3_copies_20 ?_
    refine zs_ald hE dX3_copies_21 (fun v1 => ?_)
    refine zs_ast hE dX3_copies_22 ?_
    refine zs_iinc hE 4 (v := (1 : Int32)) rfl (by decide) (by decide) (rfl) (lv' := [(0, va_rf x0), (1, .int x1), (2, va_rf x2), (3, .int x3)]) rfl dX3_copies_23 ?_
    refine zs_goto hE 3 (by decide) dX3_copies_26 ?_
    refine zs_sub [1, 2, 3, 4, 0] rfl ?_
    exact hs3 (x4 + (1 : Int32))
theorem sm_X3_copies_L3 {x : ZX Unit} {K : ZK} (hE : zE x K cX3_copies RX3 "copies" 5 1 100 encV none []) (x0 : Option Nat) (x1 : Int32) (x2 : Option Nat) (x3 : Int32) (v : Int32) : zS x 3 [(0, va_rf x0), (1, .int x1), (2, va_rf x2), (3, .int x3), (4, .int v)] [] (s_X3_copies_L3 K x0 x1 x2 x3 v) := by
  unfold s_X3_copies_L3
  exact zs_loop (lvf := fun v => [(0, va_rf x0), (1, .int x1), (2, va_rf x2), (3, .int x3), (4, .int v)]) (fun self3 hs3 v => sm_X3_copies_B3 hE x0 x1 x2 x3 self3 hs3 v) v
theorem sm_X3_copies {x : ZX Unit} {K : ZK} (hE : zE x K cX3_copies RX3 "copies" 5 1 100 encV none []) (a1 : Option Nat) (a2 : Int32) (a3 : Option Nat) (a4 : Int32) : zS x 0 [(0, va_rf a1), (1, .int a2), (2, va_rf a3), (3, .int a4)] [] (s_X3_copies K a1 a2 a3 a4) := by
  unfold s_X3_copies
  refine zs_iconst hE (v := (0 : Int32)) (by decide) dX3_copies_0 ?_
  refine zs_istore hE (i := 4) (by decide) (rfl) (lv' := [(0, va_rf a1), (1, .int a2), (2, va_rf a3), (3, .int a4)]) rfl dX3_copies_1 ?_
  refine zs_sub [1, 2, 3, 4, 0] rfl ?_
  exact sm_X3_copies_L3 hE a1 a2 a3 a4 (0 : Int32)
theorem hd_X3_copies : (yX3_copies).cls ≠ "java/lang/invoke/MethodHandle" ∧ (yX3_copies).cls ≠ "java/lang/invoke/VarHandle" ∧ (parseMethodDescriptor (yX3_copies).desc).map (fun d => d.parameters.length) = some 4 := by decide +kernel
theorem met_X3_copies (K : ZK) (a1 : Option Nat) (a2 : Int32) (a3 : Option Nat) (a4 : Int32) : zMeth K yX3_copies (zws yX3_copies cX3_copies 5 none) 1 100 [va_rf a1, .int a2, va_rf a3, .int a4] encV (s_X3_copies K a1 a2 a3 a4) :=
  fun l G hl hK => zmet_of hl hK (by decide +kernel) rfl rfl (by simp [zsl_nil, zsl_rf, zsl_r, zsl_i, zsl_j, zsl_f, zsl_d]) (fun x hE => by simp only [zla_nil, zla_rf, zla_r, zla_i, zla_j, zla_f, zla_d, Nat.reduceAdd]; exact sm_X3_copies hE a1 a2 a3 a4)
theorem sm_X3_begins {x : ZX Unit} {K : ZK} (hE : zE x K cX3_begins RX3 "begins" 1 2 124 encV none []) (this : Nat) : zS x 0 [(0, va_rf (some this))] [] (s_X3_begins K this) := by
  unfold s_X3_begins
  refine zs_aload_n hE 0 rfl rfl dX3_begins_0 ?_
  refine zs_iconst hE (v := (0 : Int32)) (by decide) dX3_begins_1 ?_
  refine zs_putI hE (ci := 35) (k := 5) rfl (by decide) in_X3 (Or.inl q2834) (Or.inl rfl) (Or.inl rfl) (fun h => nomatch h) rfl dX3_begins_2 ?_
  refine zs_aload_n hE 0 rfl rfl dX3_begins_5 ?_
  refine zs_getR hE (ci := 35) (k := 0) rfl (by decide) in_X3 (Or.inl q2829) (Or.inl rfl) dX3_begins_6 (fun v1 => ?_)
  refine zs_iconst hE (v := (0 : Int32)) (by decide) dX3_begins_9 ?_
  refine zs_aload_n hE 0 rfl rfl dX3_begins_10 ?_
  refine zs_getR hE (ci := 35) (k := 1) rfl (by decide) in_X3 (Or.inl q2830) (Or.inl rfl) dX3_begins_11 (fun v2 => ?_)
  refine zs_iconst hE (v := (0 : Int32)) (by decide) dX3_begins_14 ?_
  refine zs_callS hE (As := [va_rf v1, .int (0 : Int32), va_rf v2, .int (0 : Int32)]) (encA := encV) (met_X3_copies K v1 (0 : Int32) v2 (0 : Int32)) q2923 q105 q2921 q2922 hd_X3_copies (by decide) (by decide) rfl (by simp [zcat_rf, zcat_i, zcat_j, zcat_f, zcat_d]) (fun z hz => by cases hz) dX3_begins_15 (fun _ => ?_)
  show zS _ 18 _ [] _
  exact zs_vret hE dX3_begins_18
theorem hd_X3_begins : (yX3_begins).cls ≠ "java/lang/invoke/MethodHandle" ∧ (yX3_begins).cls ≠ "java/lang/invoke/VarHandle" ∧ (parseMethodDescriptor (yX3_begins).desc).map (fun d => d.parameters.length) = some 0 := by decide +kernel
theorem met_X3_begins (K : ZK) (this : Nat) : zMeth K yX3_begins (zws yX3_begins cX3_begins 1 none) 2 124 [.ref this] encV (s_X3_begins K this) :=
  fun l G hl hK => zmet_of hl hK (by decide +kernel) rfl rfl (by simp [zsl_nil, zsl_rf, zsl_r, zsl_i, zsl_j, zsl_f, zsl_d]) (fun x hE => by simp only [zla_nil, zla_rf, zla_r, zla_i, zla_j, zla_f, zla_d, Nat.reduceAdd]; exact sm_X3_begins hE this)
theorem sm_X3_in {x : ZX Int32} {K : ZK} (hE : zE x K cX3_in RX3 "in" 3 1 100 encI (Option.some Jvm.ClassFile.FieldType.boolean) []) (a1 : Int32) (a2 : Int32) (a3 : Int32) : zS x 0 [(0, .int a1), (1, .int a2), (2, .int a3)] [] (s_X3_in K a1 a2 a3) := by
  unfold s_X3_in
  refine zs_iload_n hE 0 rfl rfl dX3_in_0 ?_
  refine zs_iload_n hE 1 rfl rfl dX3_in_1 ?_
  refine zs_icmp_lt hE 14 (by decide) dX3_in_2 ?_ ?_
  · refine zs_iconst hE (v := (0 : Int32)) (by decide) dX3_in_14 ?_
    exact zs_zret hE rfl dX3_in_15
  · refine zs_iload_n hE 0 rfl rfl dX3_in_5 ?_
    refine zs_iload_n hE 2 rfl rfl dX3_in_6 ?_
    refine zs_icmp_gt hE 14 (by decide) dX3_in_7 ?_ ?_
    · refine zs_iconst hE (v := (0 : Int32)) (by decide) dX3_in_14 ?_
      exact zs_zret hE rfl dX3_in_15
    · refine zs_iconst hE (v := (1 : Int32)) (by decide) dX3_in_10 ?_
      refine zs_goto hE 15 (by decide) dX3_in_11 ?_
      exact zs_zret hE rfl dX3_in_15
theorem hd_X3_in : (yX3_in).cls ≠ "java/lang/invoke/MethodHandle" ∧ (yX3_in).cls ≠ "java/lang/invoke/VarHandle" ∧ (parseMethodDescriptor (yX3_in).desc).map (fun d => d.parameters.length) = some 3 := by decide +kernel
theorem met_X3_in (K : ZK) (a1 : Int32) (a2 : Int32) (a3 : Int32) : zMeth K yX3_in (zws yX3_in cX3_in 3 (Option.some Jvm.ClassFile.FieldType.boolean)) 1 100 [.int a1, .int a2, .int a3] encI (s_X3_in K a1 a2 a3) :=
  fun l G hl hK => zmet_of hl hK (by decide +kernel) rfl rfl (by simp [zsl_nil, zsl_rf, zsl_r, zsl_i, zsl_j, zsl_f, zsl_d]) (fun x hE => by simp only [zla_nil, zla_rf, zla_r, zla_i, zla_j, zla_f, zla_d, Nat.reduceAdd]; exact sm_X3_in hE a1 a2 a3)
theorem sm_X3_isAddress {x : ZX Int32} {K : ZK} (hE : zE x K cX3_isAddress RX3 "isAddress" 1 2 122 encI (Option.some Jvm.ClassFile.FieldType.boolean) []) (a1 : Int32) : zS x 0 [(0, .int a1)] [] (s_X3_isAddress K a1) := by
  unfold s_X3_isAddress
  refine zs_iload_n hE 0 rfl rfl dX3_isAddress_0 ?_
  refine zs_iconst hE (v := (0 : Int32)) (by decide) dX3_isAddress_1 ?_
  refine zs_bipush hE (v := (99 : Int32)) (by decide) dX3_isAddress_2 ?_
  refine zs_callS hE (As := [.int a1, .int (0 : Int32), .int (99 : Int32)]) (encA := encI) (met_X3_in K a1 (0 : Int32) (99 : Int32)) q2933 q105 q2931 q2932 hd_X3_in (by decide) (by decide) rfl (by simp [zcat_rf, zcat_i, zcat_j, zcat_f, zcat_d]) (fun z hz => by cases hz) dX3_isAddress_4 (fun r1 => ?_)
  show zS _ 7 _ [.int r1] _
  exact zs_zretA hE dX3_isAddress_7
theorem hd_X3_isAddress : (yX3_isAddress).cls ≠ "java/lang/invoke/MethodHandle" ∧ (yX3_isAddress).cls ≠ "java/lang/invoke/VarHandle" ∧ (parseMethodDescriptor (yX3_isAddress).desc).map (fun d => d.parameters.length) = some 1 := by decide +kernel
theorem met_X3_isAddress (K : ZK) (a1 : Int32) : zMeth K yX3_isAddress (zws yX3_isAddress cX3_isAddress 1 (Option.some Jvm.ClassFile.FieldType.boolean)) 2 122 [.int a1] encI (s_X3_isAddress K a1) :=
  fun l G hl hK => zmet_of hl hK (by decide +kernel) rfl rfl (by simp [zsl_nil, zsl_rf, zsl_r, zsl_i, zsl_j, zsl_f, zsl_d]) (fun x hE => by simp only [zla_nil, zla_rf, zla_r, zla_i, zla_j, zla_f, zla_d, Nat.reduceAdd]; exact sm_X3_isAddress hE a1)
theorem sm_X3_isBad {x : ZX Int32} {K : ZK} (hE : zE x K cX3_isBad RX3 "isBad" 3 1 100 encI (Option.some Jvm.ClassFile.FieldType.boolean) []) (this : Nat) (a1 : Int32) (a2 : Int32) : zS x 0 [(0, va_rf (some this)), (1, .int a1), (2, .int a2)] [] (s_X3_isBad K this a1 a2) := by
  unfold s_X3_isBad
  refine zs_aload_n hE 0 rfl rfl dX3_isBad_0 ?_
  refine zs_iload_n hE 1 rfl rfl dX3_isBad_1 ?_
  refine zs_putI hE (ci := 35) (k := 7) rfl (by decide) in_X3 (Or.inl q2836) (Or.inl rfl) (Or.inl rfl) (fun h => nomatch h) rfl dX3_isBad_2 ?_
  refine zs_aload_n hE 0 rfl rfl dX3_isBad_5 ?_
  refine zs_iload_n hE 2 rfl rfl dX3_isBad_6 ?_
  refine zs_putI hE (ci := 35) (k := 8) rfl (by decide) in_X3 (Or.inl q2837) (Or.inl rfl) (Or.inl rfl) (fun h => nomatch h) rfl dX3_isBad_7 ?_
  refine zs_iconst hE (v := (1 : Int32)) (by decide) dX3_isBad_10 ?_
  exact zs_zret hE rfl dX3_isBad_11
theorem hd_X3_isBad : (yX3_isBad).cls ≠ "java/lang/invoke/MethodHandle" ∧ (yX3_isBad).cls ≠ "java/lang/invoke/VarHandle" ∧ (parseMethodDescriptor (yX3_isBad).desc).map (fun d => d.parameters.length) = some 2 := by decide +kernel
theorem met_X3_isBad (K : ZK) (this : Nat) (a1 : Int32) (a2 : Int32) : zMeth K yX3_isBad (zws yX3_isBad cX3_isBad 3 (Option.some Jvm.ClassFile.FieldType.boolean)) 1 100 [.ref this, .int a1, .int a2] encI (s_X3_isBad K this a1 a2) :=
  fun l G hl hK => zmet_of hl hK (by decide +kernel) rfl rfl (by simp [zsl_nil, zsl_rf, zsl_r, zsl_i, zsl_j, zsl_f, zsl_d]) (fun x hE => by simp only [zla_nil, zla_rf, zla_r, zla_i, zla_j, zla_f, zla_d, Nat.reduceAdd]; exact sm_X3_isBad hE this a1 a2)
theorem sm_X3_sv {x : ZX Int32} {K : ZK} (hE : zE x K cX3_sv RX3 "sv" 3 1 100 encI (Option.some Jvm.ClassFile.FieldType.int) []) (this : Nat) (a1 : Int32) (a2 : Int32) : zS x 0 [(0, va_rf (some this)), (1, .int a1), (2, .int a2)] [] (s_X3_sv K this a1 a2) := by
  unfold s_X3_sv
  refine zs_aload_n hE 0 rfl rfl dX3_sv_0 ?_
  refine zs_getR hE (ci := 35) (k := 0) rfl (by decide) in_X3 (Or.inl q2829) (Or.inl rfl) dX3_sv_1 (fun v1 => ?_)
  refine zs_bipush hE (v := (31 : Int32)) (by decide) dX3_sv_4 ?_
  refine zs_bipush hE (v := (64 : Int32)) (by decide) dX3_sv_6 ?_
  refine zs_iload_n hE 1 rfl rfl dX3_sv_8 ?_
  refine zs_imul hE dX3_sv_9 ?_
  refine zs_iadd hE dX3_sv_10 ?_
  refine zs_iload_n hE 2 rfl rfl dX3_sv_11 ?_
  refine zs_iadd hE dX3_sv_12 ?_
  refine zs_ald hE dX3_sv_13 (fun v2 => ?_)
  exact zs_iret hE dX3_sv_14
theorem hd_X3_sv : (yX3_sv).cls ≠ "java/lang/invoke/MethodHandle" ∧ (yX3_sv).cls ≠ "java/lang/invoke/VarHandle" ∧ (parseMethodDescriptor (yX3_sv).desc).map (fun d => d.parameters.length) = some 2 := by decide +kernel
theorem met_X3_sv (K : ZK) (this : Nat) (a1 : Int32) (a2 : Int32) : zMeth K yX3_sv (zws yX3_sv cX3_sv 3 (Option.some Jvm.ClassFile.FieldType.int)) 1 100 [.ref this, .int a1, .int a2] encI (s_X3_sv K this a1 a2) :=
  fun l G hl hK => zmet_of hl hK (by decide +kernel) rfl rfl (by simp [zsl_nil, zsl_rf, zsl_r, zsl_i, zsl_j, zsl_f, zsl_d]) (fun x hE => by simp only [zla_nil, zla_rf, zla_r, zla_i, zla_j, zla_f, zla_d, Nat.reduceAdd]; exact sm_X3_sv hE this a1 a2)
theorem sm_X3_placeOf_B2 {x : ZX Int32} {K : ZK} (hE : zE x K cX3_placeOf RX3 "placeOf" 3 2 122 encI (Option.some Jvm.ClassFile.FieldType.int) []) (x0 : Nat) (x1 : Int32) (self2 : Int32 → ZP Int32) (hs2 : ∀ v : Int32, zS x 2 [(0, va_rf (some x0)), (1, .int x1), (2, .int v)] [] (self2 v)) (x2 : Int32) : zS x 2 [(0, va_rf (some x0)), (1, .int x1), (2, .int x2)] [] (s_X3_placeOf_B2 K x0 x1 self2 x2) := by
  unfold s_X3_placeOf_B2
  refine zs_iload_n hE 2 rfl rfl dX3_placeOf_2 ?_
  refine zs_aload_n hE 0 rfl rfl dX3_placeOf_3 ?_
  refine zs_getR hE (ci := 35) (k := 0) rfl (by decide) in_X3 (Or.inl q2829) (Or.inl rfl) dX3_placeOf_4 (fun v1 => ?_)
  refine zs_iconst hE (v := (1 : Int32)) (by decide) dX3_placeOf_7 ?_
  refine zs_ald hE dX3_placeOf_8 (fun v2 => ?_)
  refine zs_icmp_ge hE 30 (by decide) dX3_placeOf_9 ?_ ?_
  · refine zs_iconst hE (v := (-1 : Int32)) (by decide) dX3_placeOf_30 ?_
    exact zs_iret hE dX3_placeOf_31
  · refine zs_aload_n hE 0 rfl rfl dX3_placeOf_12 ?_
    refine zs_iload_n hE 2 rfl rfl dX3_placeOf_13 ?_
    refine zs_iconst hE (v := (0 : Int32)) (by decide) dX3_placeOf_14 ?_
    refine zs_callV hE (As := [.int x2, .int (0 : Int32)]) (encA := encI) (ci := 35) rfl (fun y0 => met_X3_sv K y0 x2 (0 : Int32)) q2945 q105 q2942 q2944 (zq qs50) hd_X3_sv (by decide) (by decide) rfl (by simp [zcat_rf, zcat_i, zcat_j, zcat_f, zcat_d]) (fun z hz => by cases hz) dX3_placeOf_15 (fun r3 => ?_)
    show zS _ 18 _ [.int r3] _
    refine zs_iload_n hE 1 rfl rfl dX3_placeOf_18 ?_
    refine zs_icmp_ne hE 24 (by decide) dX3_placeOf_19 ?_ ?_
    · refine zs_iload_n hE 2 rfl rfl dX3_placeOf_22 ?_
      exact zs_iret hE dX3_placeOf_23
    · refine zs_iinc hE 2 (v := (1 : Int32)) rfl (by decide) (by decide) (rfl) (lv' := [(0, va_rf (some x0)), (1, .int x1)]) rfl dX3_placeOf_24 ?_
      refine zs_goto hE 2 (by decide) dX3_placeOf_27 ?_
      refine zs_sub [1, 2, 0] rfl ?_
      exact hs2 (x2 + (1 : Int32))
theorem sm_X3_placeOf_L2 {x : ZX Int32} {K : ZK} (hE : zE x K cX3_placeOf RX3 "placeOf" 3 2 122 encI (Option.some Jvm.ClassFile.FieldType.int) []) (x0 : Nat) (x1 : Int32) (v : Int32) : zS x 2 [(0, va_rf (some x0)), (1, .int x1), (2, .int v)] [] (s_X3_placeOf_L2 K x0 x1 v) := by
  unfold s_X3_placeOf_L2
  exact zs_loop (lvf := fun v => [(0, va_rf (some x0)), (1, .int x1), (2, .int v)]) (fun self2 hs2 v => sm_X3_placeOf_B2 hE x0 x1 self2 hs2 v) v
theorem sm_X3_placeOf {x : ZX Int32} {K : ZK} (hE : zE x K cX3_placeOf RX3 "placeOf" 3 2 122 encI (Option.some Jvm.ClassFile.FieldType.int) []) (this : Nat) (a1 : Int32) : zS x 0 [(0, va_rf (some this)), (1, .int a1)] [] (s_X3_placeOf K this a1) := by
  unfold s_X3_placeOf
  refine zs_iconst hE (v := (0 : Int32)) (by decide) dX3_placeOf_0 ?_
  refine zs_istore_n hE (i := 2) (q := 2) rfl (by decide) (rfl) (lv' := [(0, va_rf (some this)), (1, .int a1)]) rfl dX3_placeOf_1 ?_
  refine zs_sub [1, 2, 0] rfl ?_
  exact sm_X3_placeOf_L2 hE this a1 (0 : Int32)
theorem hd_X3_placeOf : (yX3_placeOf).cls ≠ "java/lang/invoke/MethodHandle" ∧ (yX3_placeOf).cls ≠ "java/lang/invoke/VarHandle" ∧ (parseMethodDescriptor (yX3_placeOf).desc).map (fun d => d.parameters.length) = some 1 := by decide +kernel
theorem met_X3_placeOf (K : ZK) (this : Nat) (a1 : Int32) : zMeth K yX3_placeOf (zws yX3_placeOf cX3_placeOf 3 (Option.some Jvm.ClassFile.FieldType.int)) 2 122 [.ref this, .int a1] encI (s_X3_placeOf K this a1) :=
  fun l G hl hK => zmet_of hl hK (by decide +kernel) rfl rfl (by simp [zsl_nil, zsl_rf, zsl_r, zsl_i, zsl_j, zsl_f, zsl_d]) (fun x hE => by simp only [zla_nil, zla_rf, zla_r, zla_i, zla_j, zla_f, zla_d, Nat.reduceAdd]; exact sm_X3_placeOf hE this a1)
theorem sm_X3_isRefusedJoin {x : ZX Int32} {K : ZK} (hE : zE x K cX3_isRefusedJoin RX3 "isRefusedJoin" 2 3 144 encI (Option.some Jvm.ClassFile.FieldType.boolean) []) (this : Nat) (a1 : Int32) : zS x 0 [(0, va_rf (some this)), (1, .int a1)] [] (s_X3_isRefusedJoin K this a1) := by
  unfold s_X3_isRefusedJoin
  refine zs_iload_n hE 1 rfl rfl dX3_isRefusedJoin_0 ?_
  refine zs_callS hE (As := [.int a1]) (encA := encI) (met_X3_isAddress K a1) q2930 q105 q2928 q2929 hd_X3_isAddress (by decide) (by decide) rfl (by simp [zcat_rf, zcat_i, zcat_j, zcat_f, zcat_d]) (fun z hz => by cases hz) dX3_isRefusedJoin_1 (fun r1 => ?_)
  show zS _ 4 _ [.int r1] _
  refine zs_if_ne hE 14 (by decide) dX3_isRefusedJoin_4 ?_ ?_
  · refine zs_aload_n hE 0 rfl rfl dX3_isRefusedJoin_7 ?_
    refine zs_iconst hE (v := (1 : Int32)) (by decide) dX3_isRefusedJoin_8 ?_
    refine zs_iload_n hE 1 rfl rfl dX3_isRefusedJoin_9 ?_
    refine zs_callV hE (As := [.int (1 : Int32), .int a1]) (encA := encI) (ci := 35) rfl (fun y0 => met_X3_isBad K y0 (1 : Int32) a1) q2937 q105 q2934 q2936 (zq qs48) hd_X3_isBad (by decide) (by decide) rfl (by simp [zcat_rf, zcat_i, zcat_j, zcat_f, zcat_d]) (fun z hz => by cases hz) dX3_isRefusedJoin_10 (fun r2 => ?_)
    show zS _ 13 _ [.int r2] _
    exact zs_zretA hE dX3_isRefusedJoin_13
  · refine zs_aload_n hE 0 rfl rfl dX3_isRefusedJoin_14 ?_
    refine zs_iload_n hE 1 rfl rfl dX3_isRefusedJoin_15 ?_
    refine zs_callV hE (As := [.int a1]) (encA := encI) (ci := 35) rfl (fun y0 => met_X3_placeOf K y0 a1) q2941 q105 q2938 q2940 (zq qs49) hd_X3_placeOf (by decide) (by decide) rfl (by simp [zcat_rf, zcat_i, zcat_j, zcat_f, zcat_d]) (fun z hz => by cases hz) dX3_isRefusedJoin_16 (fun r3 => ?_)
    show zS _ 19 _ [.int r3] _
    refine zs_if_lt hE 29 (by decide) dX3_isRefusedJoin_19 ?_ ?_
    · refine zs_aload_n hE 0 rfl rfl dX3_isRefusedJoin_29 ?_
      refine zs_getR hE (ci := 35) (k := 0) rfl (by decide) in_X3 (Or.inl q2829) (Or.inl rfl) dX3_isRefusedJoin_30 (fun v4 => ?_)
      refine zs_iconst hE (v := (1 : Int32)) (by decide) dX3_isRefusedJoin_33 ?_
      refine zs_ald hE dX3_isRefusedJoin_34 (fun v5 => ?_)
      refine zs_bipush hE (v := (10 : Int32)) (by decide) dX3_isRefusedJoin_35 ?_
      refine zs_icmp_ne hE 54 (by decide) dX3_isRefusedJoin_37 ?_ ?_
      · refine zs_aload_n hE 0 rfl rfl dX3_isRefusedJoin_40 ?_
        refine zs_iconst hE (v := (4 : Int32)) (by decide) dX3_isRefusedJoin_41 ?_
        refine zs_bipush hE (v := (10 : Int32)) (by decide) dX3_isRefusedJoin_42 ?_
        refine zs_callV hE (As := [.int (4 : Int32), .int (10 : Int32)]) (encA := encI) (ci := 35) rfl (fun y0 => met_X3_isBad K y0 (4 : Int32) (10 : Int32)) q2937 q105 q2934 q2936 (zq qs48) hd_X3_isBad (by decide) (by decide) rfl (by simp [zcat_rf, zcat_i, zcat_j, zcat_f, zcat_d]) (fun z hz => by cases hz) dX3_isRefusedJoin_44 (fun r6 => ?_)
        show zS _ 47 _ [.int r6] _
        refine zs_if_eq hE 54 (by decide) dX3_isRefusedJoin_47 ?_ ?_
        · refine zs_iconst hE (v := (0 : Int32)) (by decide) dX3_isRefusedJoin_54 ?_
          exact zs_zret hE rfl dX3_isRefusedJoin_55
        · refine zs_iconst hE (v := (1 : Int32)) (by decide) dX3_isRefusedJoin_50 ?_
          refine zs_goto hE 55 (by decide) dX3_isRefusedJoin_51 ?_
          exact zs_zret hE rfl dX3_isRefusedJoin_55
      · refine zs_iconst hE (v := (0 : Int32)) (by decide) dX3_isRefusedJoin_54 ?_
        exact zs_zret hE rfl dX3_isRefusedJoin_55
    · refine zs_aload_n hE 0 rfl rfl dX3_isRefusedJoin_22 ?_
      refine zs_iconst hE (v := (2 : Int32)) (by decide) dX3_isRefusedJoin_23 ?_
      refine zs_iload_n hE 1 rfl rfl dX3_isRefusedJoin_24 ?_
      refine zs_callV hE (As := [.int (2 : Int32), .int a1]) (encA := encI) (ci := 35) rfl (fun y0 => met_X3_isBad K y0 (2 : Int32) a1) q2937 q105 q2934 q2936 (zq qs48) hd_X3_isBad (by decide) (by decide) rfl (by simp [zcat_rf, zcat_i, zcat_j, zcat_f, zcat_d]) (fun z hz => by cases hz) dX3_isRefusedJoin_25 (fun r7 => ?_)
      show zS _ 28 _ [.int r7] _
      exact zs_zretA hE dX3_isRefusedJoin_28
theorem hd_X3_isRefusedJoin : (yX3_isRefusedJoin).cls ≠ "java/lang/invoke/MethodHandle" ∧ (yX3_isRefusedJoin).cls ≠ "java/lang/invoke/VarHandle" ∧ (parseMethodDescriptor (yX3_isRefusedJoin).desc).map (fun d => d.parameters.length) = some 1 := by decide +kernel
theorem met_X3_isRefusedJoin (K : ZK) (this : Nat) (a1 : Int32) : zMeth K yX3_isRefusedJoin (zws yX3_isRefusedJoin cX3_isRefusedJoin 2 (Option.some Jvm.ClassFile.FieldType.boolean)) 3 144 [.ref this, .int a1] encI (s_X3_isRefusedJoin K this a1) :=
  fun l G hl hK => zmet_of hl hK (by decide +kernel) rfl rfl (by simp [zsl_nil, zsl_rf, zsl_r, zsl_i, zsl_j, zsl_f, zsl_d]) (fun x hE => by simp only [zla_nil, zla_rf, zla_r, zla_i, zla_j, zla_f, zla_d, Nat.reduceAdd]; exact sm_X3_isRefusedJoin hE this a1)
theorem sm_X3_ls {x : ZX Unit} {K : ZK} (hE : zE x K cX3_ls RX3 "ls" 4 1 100 encV none []) (this : Nat) (a1 : Int32) (a2 : Int32) (a3 : Int32) : zS x 0 [(0, va_rf (some this)), (1, .int a1), (2, .int a2), (3, .int a3)] [] (s_X3_ls K this a1 a2 a3) := by
  unfold s_X3_ls
  refine zs_aload_n hE 0 rfl rfl dX3_ls_0 ?_
  refine zs_getR hE (ci := 35) (k := 0) rfl (by decide) in_X3 (Or.inl q2829) (Or.inl rfl) dX3_ls_1 (fun v1 => ?_)
  refine zs_bipush hE (v := (31 : Int32)) (by decide) dX3_ls_4 ?_
  refine zs_bipush hE (v := (64 : Int32)) (by decide) dX3_ls_6 ?_
  refine zs_iload_n hE 1 rfl rfl dX3_ls_8 ?_
  refine zs_imul hE dX3_ls_9 ?_
  refine zs_iadd hE dX3_ls_10 ?_
  refine zs_iload_n hE 2 rfl rfl dX3_ls_11 ?_
  refine zs_iadd hE dX3_ls_12 ?_
  refine zs_iload_n hE 3 rfl rfl dX3_ls_13 ?_
  refine zs_ast hE dX3_ls_14 ?_
  exact zs_vret hE dX3_ls_15
theorem hd_X3_ls : (yX3_ls).cls ≠ "java/lang/invoke/MethodHandle" ∧ (yX3_ls).cls ≠ "java/lang/invoke/VarHandle" ∧ (parseMethodDescriptor (yX3_ls).desc).map (fun d => d.parameters.length) = some 3 := by decide +kernel
theorem met_X3_ls (K : ZK) (this : Nat) (a1 : Int32) (a2 : Int32) (a3 : Int32) : zMeth K yX3_ls (zws yX3_ls cX3_ls 4 none) 1 100 [.ref this, .int a1, .int a2, .int a3] encV (s_X3_ls K this a1 a2 a3) :=
  fun l G hl hK => zmet_of hl hK (by decide +kernel) rfl rfl (by simp [zsl_nil, zsl_rf, zsl_r, zsl_i, zsl_j, zsl_f, zsl_d]) (fun x hE => by simp only [zla_nil, zla_rf, zla_r, zla_i, zla_j, zla_f, zla_d, Nat.reduceAdd]; exact sm_X3_ls hE this a1 a2 a3)
theorem sm_X3_joins_B59 {x : ZX Int32} {K : ZK} (hE : zE x K cX3_joins RX3 "joins" 4 2 123 encI (Option.some Jvm.ClassFile.FieldType.int) []) (x0 : Nat) (x1 : Int32) (x2 : Int32) (self59 : Int32 → ZP Int32) (hs59 : ∀ v : Int32, zS x 59 [(0, va_rf (some x0)), (1, .int x1), (2, .int x2), (3, .int v)] [] (self59 v)) (x3 : Int32) : zS x 59 [(0, va_rf (some x0)), (1, .int x1), (2, .int x2), (3, .int x3)] [] (s_X3_joins_B59 K x0 x1 x2 self59 x3) := by
  unfold s_X3_joins_B59
  refine zs_iload_n hE 3 rfl rfl dX3_joins_59 ?_
  refine zs_bipush hE (v := (64 : Int32)) (by decide) dX3_joins_60 ?_
  refine zs_icmp_ge hE 78 (by decide) dX3_joins_62 ?_ ?_
  · refine zs_aload_n hE 0 rfl rfl dX3_joins_78 ?_
    refine zs_iload_n hE 2 rfl rfl dX3_joins_79 ?_
    refine zs_iconst hE (v := (0 : Int32)) (by decide) dX3_joins_80 ?_
    refine zs_iload_n hE 1 rfl rfl dX3_joins_81 ?_
    refine zs_callV hE (As := [.int x2, .int (0 : Int32), .int x1]) (encA := encV) (ci := 35) rfl (fun y0 => met_X3_ls K y0 x2 (0 : Int32) x1) q2961 q105 q2958 q2960 (zq qs54) hd_X3_ls (by decide) (by decide) rfl (by simp [zcat_rf, zcat_i, zcat_j, zcat_f, zcat_d]) (fun z hz => by cases hz) dX3_joins_82 (fun _ => ?_)
    show zS _ 85 _ [] _
    refine zs_aload_n hE 0 rfl rfl dX3_joins_85 ?_
    refine zs_getR hE (ci := 35) (k := 0) rfl (by decide) in_X3 (Or.inl q2829) (Or.inl rfl) dX3_joins_86 (fun v3 => ?_)
    refine zs_iconst hE (v := (1 : Int32)) (by decide) dX3_joins_89 ?_
    refine zs_dup2_11 hE (rfl) (zcat_rf _) dX3_joins_90 ?_
    refine zs_ald hE dX3_joins_91 (fun v4 => ?_)
    refine zs_iconst hE (v := (1 : Int32)) (by decide) dX3_joins_92 ?_
    refine zs_iadd hE dX3_joins_93 ?_
    refine zs_ast hE dX3_joins_94 ?_
    refine zs_aload_n hE 0 rfl rfl dX3_joins_95 ?_
    refine zs_getR hE (ci := 35) (k := 0) rfl (by decide) in_X3 (Or.inl q2829) (Or.inl rfl) dX3_joins_96 (fun v5 => ?_)
    refine zs_iconst hE (v := (1 : Int32)) (by decide) dX3_joins_99 ?_
    refine zs_ald hE dX3_joins_100 (fun v6 => ?_)
    exact zs_iret hE dX3_joins_101
  · refine zs_aload_n hE 0 rfl rfl dX3_joins_65 ?_
    refine zs_iload_n hE 2 rfl rfl dX3_joins_66 ?_
    refine zs_iload_n hE 3 rfl rfl dX3_joins_67 ?_
    refine zs_iconst hE (v := (0 : Int32)) (by decide) dX3_joins_68 ?_
    refine zs_callV hE (As := [.int x2, .int x3, .int (0 : Int32)]) (encA := encV) (ci := 35) rfl (fun y0 => met_X3_ls K y0 x2 x3 (0 : Int32)) q2961 q105 q2958 q2960 (zq qs54) hd_X3_ls (by decide) (by decide) rfl (by simp [zcat_rf, zcat_i, zcat_j, zcat_f, zcat_d]) (fun z hz => by cases hz) dX3_joins_69 (fun _ => ?_)
    show zS _ 72 _ [] _
    refine zs_iinc hE 3 (v := (1 : Int32)) rfl (by decide) (by decide) (rfl) (lv' := [(0, va_rf (some x0)), (1, .int x1), (2, .int x2)]) rfl dX3_joins_72 ?_
    refine zs_goto hE 59 (by decide) dX3_joins_75 ?_
    refine zs_sub [1, 2, 3, 0] rfl ?_
    exact hs59 (x3 + (1 : Int32))
theorem sm_X3_joins_L59 {x : ZX Int32} {K : ZK} (hE : zE x K cX3_joins RX3 "joins" 4 2 123 encI (Option.some Jvm.ClassFile.FieldType.int) []) (x0 : Nat) (x1 : Int32) (x2 : Int32) (v : Int32) : zS x 59 [(0, va_rf (some x0)), (1, .int x1), (2, .int x2), (3, .int v)] [] (s_X3_joins_L59 K x0 x1 x2 v) := by
  unfold s_X3_joins_L59
  exact zs_loop (lvf := fun v => [(0, va_rf (some x0)), (1, .int x1), (2, .int x2), (3, .int v)]) (fun self59 hs59 v => sm_X3_joins_B59 hE x0 x1 x2 self59 hs59 v) v
theorem sm_X3_joins_B25 {x : ZX Int32} {K : ZK} (hE : zE x K cX3_joins RX3 "joins" 4 2 123 encI (Option.some Jvm.ClassFile.FieldType.int) []) (x0 : Nat) (x1 : Int32) (x2 : Int32) (self7 : Int32 → ZP Int32) (self25 : Int32 → ZP Int32) (hs7 : ∀ v : Int32, zS x 7 [(0, va_rf (some x0)), (1, .int x1), (2, .int v)] [] (self7 v)) (hs25 : ∀ v : Int32, zS x 25 [(0, va_rf (some x0)), (1, .int x1), (2, .int x2), (3, .int v)] [] (self25 v)) (x3 : Int32) : zS x 25 [(0, va_rf (some x0)), (1, .int x1), (2, .int x2), (3, .int x3)] [] (s_X3_joins_B25 K x0 x1 x2 self7 self25 x3) := by
  unfold s_X3_joins_B25
  refine zs_iload_n hE 3 rfl rfl dX3_joins_25 ?_
  refine zs_bipush hE (v := (64 : Int32)) (by decide) dX3_joins_26 ?_
  refine zs_icmp_ge hE 51 (by decide) dX3_joins_28 ?_ ?_
  · refine zs_iinc hE 2 (v := (-1 : Int32)) rfl (by decide) (by decide) (rfl) (lv' := [(0, va_rf (some x0)), (1, .int x1), (3, .int x3)]) rfl dX3_joins_51 ?_
    refine zs_goto hE 7 (by decide) dX3_joins_54 ?_
    refine zs_sub [1, 2, 0] rfl ?_
    exact hs7 (x2 + (-1 : Int32))
  · refine zs_aload_n hE 0 rfl rfl dX3_joins_31 ?_
    refine zs_iload_n hE 2 rfl rfl dX3_joins_32 ?_
    refine zs_iload_n hE 3 rfl rfl dX3_joins_33 ?_
    refine zs_aload_n hE 0 rfl rfl dX3_joins_34 ?_
    refine zs_iload_n hE 2 rfl rfl dX3_joins_35 ?_
    refine zs_iconst hE (v := (1 : Int32)) (by decide) dX3_joins_36 ?_
    refine zs_isub hE dX3_joins_37 ?_
    refine zs_iload_n hE 3 rfl rfl dX3_joins_38 ?_
    refine zs_callV hE (As := [.int (x2 - (1 : Int32)), .int x3]) (encA := encI) (ci := 35) rfl (fun y0 => met_X3_sv K y0 (x2 - (1 : Int32)) x3) q2945 q105 q2942 q2944 (zq qs50) hd_X3_sv (by decide) (by decide) rfl (by simp [zcat_rf, zcat_i, zcat_j, zcat_f, zcat_d]) (fun z hz => by cases hz) dX3_joins_39 (fun r8 => ?_)
    show zS _ 42 _ [.int r8, .int x3, .int x2, va_rf (some x0)] _
    refine zs_callV hE (As := [.int x2, .int x3, .int r8]) (encA := encV) (ci := 35) rfl (fun y0 => met_X3_ls K y0 x2 x3 r8) q2961 q105 q2958 q2960 (zq qs54) hd_X3_ls (by decide) (by decide) rfl (by simp [zcat_rf, zcat_i, zcat_j, zcat_f, zcat_d]) (fun z hz => by cases hz) dX3_joins_42 (fun _ => ?_)
    show zS _ 45 _ [] _
    refine zs_iinc hE 3 (v := (1 : Int32)) rfl (by decide) (by decide) (rfl) (lv' := [(0, va_rf (some x0)), (1, .int x1), (2, .int x2)]) rfl dX3_joins_45 ?_
    refine zs_goto hE 25 (by decide) dX3_joins_48 ?_
    refine zs_sub [1, 2, 3, 0] rfl ?_
    exact hs25 (x3 + (1 : Int32))
theorem sm_X3_joins_L25 {x : ZX Int32} {K : ZK} (hE : zE x K cX3_joins RX3 "joins" 4 2 123 encI (Option.some Jvm.ClassFile.FieldType.int) []) (x0 : Nat) (x1 : Int32) (x2 : Int32) (self7 : Int32 → ZP Int32) (hs7 : ∀ v : Int32, zS x 7 [(0, va_rf (some x0)), (1, .int x1), (2, .int v)] [] (self7 v)) (v : Int32) : zS x 25 [(0, va_rf (some x0)), (1, .int x1), (2, .int x2), (3, .int v)] [] (s_X3_joins_L25 K x0 x1 x2 self7 v) := by
  unfold s_X3_joins_L25
  exact zs_loop (lvf := fun v => [(0, va_rf (some x0)), (1, .int x1), (2, .int x2), (3, .int v)]) (fun self25 hs25 v => sm_X3_joins_B25 hE x0 x1 x2 self7 self25 hs7 hs25 v) v
theorem sm_X3_joins_B7 {x : ZX Int32} {K : ZK} (hE : zE x K cX3_joins RX3 "joins" 4 2 123 encI (Option.some Jvm.ClassFile.FieldType.int) []) (x0 : Nat) (x1 : Int32) (self7 : Int32 → ZP Int32) (hs7 : ∀ v : Int32, zS x 7 [(0, va_rf (some x0)), (1, .int x1), (2, .int v)] [] (self7 v)) (x2 : Int32) : zS x 7 [(0, va_rf (some x0)), (1, .int x1), (2, .int x2)] [] (s_X3_joins_B7 K x0 x1 self7 x2) := by
  unfold s_X3_joins_B7
  refine zs_iload_n hE 2 rfl rfl dX3_joins_7 ?_
  refine zs_if_le hE 57 (by decide) dX3_joins_8 ?_ ?_
  · refine zs_iconst hE (v := (0 : Int32)) (by decide) dX3_joins_57 ?_
    refine zs_istore_n hE (i := 3) (q := 3) rfl (by decide) (rfl) (lv' := [(0, va_rf (some x0)), (1, .int x1), (2, .int x2)]) rfl dX3_joins_58 ?_
    refine zs_sub [1, 2, 3, 0] rfl ?_
    exact sm_X3_joins_L59 hE x0 x1 x2 (0 : Int32)
  · refine zs_aload_n hE 0 rfl rfl dX3_joins_11 ?_
    refine zs_iload_n hE 2 rfl rfl dX3_joins_12 ?_
    refine zs_iconst hE (v := (1 : Int32)) (by decide) dX3_joins_13 ?_
    refine zs_isub hE dX3_joins_14 ?_
    refine zs_iconst hE (v := (0 : Int32)) (by decide) dX3_joins_15 ?_
    refine zs_callV hE (As := [.int (x2 - (1 : Int32)), .int (0 : Int32)]) (encA := encI) (ci := 35) rfl (fun y0 => met_X3_sv K y0 (x2 - (1 : Int32)) (0 : Int32)) q2945 q105 q2942 q2944 (zq qs50) hd_X3_sv (by decide) (by decide) rfl (by simp [zcat_rf, zcat_i, zcat_j, zcat_f, zcat_d]) (fun z hz => by cases hz) dX3_joins_16 (fun r7 => ?_)
    show zS _ 19 _ [.int r7] _
    refine zs_iload_n hE 1 rfl rfl dX3_joins_19 ?_
    refine zs_icmp_le hE 57 (by decide) dX3_joins_20 ?_ ?_
    · refine zs_iconst hE (v := (0 : Int32)) (by decide) dX3_joins_57 ?_
      refine zs_istore_n hE (i := 3) (q := 3) rfl (by decide) (rfl) (lv' := [(0, va_rf (some x0)), (1, .int x1), (2, .int x2)]) rfl dX3_joins_58 ?_
      refine zs_sub [1, 2, 3, 0] rfl ?_
      exact sm_X3_joins_L59 hE x0 x1 x2 (0 : Int32)
    · refine zs_iconst hE (v := (0 : Int32)) (by decide) dX3_joins_23 ?_
      refine zs_istore_n hE (i := 3) (q := 3) rfl (by decide) (rfl) (lv' := [(0, va_rf (some x0)), (1, .int x1), (2, .int x2)]) rfl dX3_joins_24 ?_
      refine zs_sub [1, 2, 3, 0] rfl ?_
      exact sm_X3_joins_L25 hE x0 x1 x2 self7 hs7 (0 : Int32)
theorem sm_X3_joins_L7 {x : ZX Int32} {K : ZK} (hE : zE x K cX3_joins RX3 "joins" 4 2 123 encI (Option.some Jvm.ClassFile.FieldType.int) []) (x0 : Nat) (x1 : Int32) (v : Int32) : zS x 7 [(0, va_rf (some x0)), (1, .int x1), (2, .int v)] [] (s_X3_joins_L7 K x0 x1 v) := by
  unfold s_X3_joins_L7
  exact zs_loop (lvf := fun v => [(0, va_rf (some x0)), (1, .int x1), (2, .int v)]) (fun self7 hs7 v => sm_X3_joins_B7 hE x0 x1 self7 hs7 v) v
theorem sm_X3_joins {x : ZX Int32} {K : ZK} (hE : zE x K cX3_joins RX3 "joins" 4 2 123 encI (Option.some Jvm.ClassFile.FieldType.int) []) (this : Nat) (a1 : Int32) : zS x 0 [(0, va_rf (some this)), (1, .int a1)] [] (s_X3_joins K this a1) := by
  unfold s_X3_joins
  refine zs_aload_n hE 0 rfl rfl dX3_joins_0 ?_
  refine zs_getR hE (ci := 35) (k := 0) rfl (by decide) in_X3 (Or.inl q2829) (Or.inl rfl) dX3_joins_1 (fun v1 => ?_)
  refine zs_iconst hE (v := (1 : Int32)) (by decide) dX3_joins_4 ?_
  refine zs_ald hE dX3_joins_5 (fun v2 => ?_)
  refine zs_istore_n hE (i := 2) (q := 2) rfl (by decide) (rfl) (lv' := [(0, va_rf (some this)), (1, .int a1)]) rfl dX3_joins_6 ?_
  refine zs_sub [1, 2, 0] rfl ?_
  exact sm_X3_joins_L7 hE this a1 v2
theorem hd_X3_joins : (yX3_joins).cls ≠ "java/lang/invoke/MethodHandle" ∧ (yX3_joins).cls ≠ "java/lang/invoke/VarHandle" ∧ (parseMethodDescriptor (yX3_joins).desc).map (fun d => d.parameters.length) = some 1 := by decide +kernel
theorem met_X3_joins (K : ZK) (this : Nat) (a1 : Int32) : zMeth K yX3_joins (zws yX3_joins cX3_joins 4 (Option.some Jvm.ClassFile.FieldType.int)) 2 123 [.ref this, .int a1] encI (s_X3_joins K this a1) :=
  fun l G hl hK => zmet_of hl hK (by decide +kernel) rfl rfl (by simp [zsl_nil, zsl_rf, zsl_r, zsl_i, zsl_j, zsl_f, zsl_d]) (fun x hE => by simp only [zla_nil, zla_rf, zla_r, zla_i, zla_j, zla_f, zla_d, Nat.reduceAdd]; exact sm_X3_joins hE this a1)
theorem sm_X3_keeps_J56 {x : ZX Int32} {K : ZK} (hE : zE x K cX3_keeps RX3 "keeps" 3 2 124 encI (Option.some Jvm.ClassFile.FieldType.int) []) (x0 : Nat) (x1 : Int32) : zS x 56 [(0, va_rf (some x0)), (1, .int x1)] [] (s_X3_keeps_J56 K x0 x1) := by
  unfold s_X3_keeps_J56
  refine zs_aload_n hE 0 rfl rfl dX3_keeps_56 ?_
  refine zs_getR hE (ci := 35) (k := 1) rfl (by decide) in_X3 (Or.inl q2830) (Or.inl rfl) dX3_keeps_57 (fun v3 => ?_)
  refine zs_iconst hE (v := (0 : Int32)) (by decide) dX3_keeps_60 ?_
  refine zs_aload_n hE 0 rfl rfl dX3_keeps_61 ?_
  refine zs_getR hE (ci := 35) (k := 4) rfl (by decide) in_X3 (Or.inl q2833) (Or.inl rfl) dX3_keeps_62 (fun v4 => ?_)
  refine zs_sipush hE (v := (671 : Int32)) (by decide) dX3_keeps_65 ?_
  refine zs_aload_n hE 0 rfl rfl dX3_keeps_68 ?_
  refine zs_getI hE (ci := 35) (k := 6) rfl (by decide) in_X3 (Or.inl q2835) (Or.inl rfl) dX3_keeps_69 (fun v5 => ?_)
  refine zs_imul hE dX3_keeps_72 ?_
  refine zs_callS hE (As := [va_rf v3, .int (0 : Int32), va_rf v4, .int ((671 : Int32) * v5)]) (encA := encV) (met_X3_copies K v3 (0 : Int32) v4 ((671 : Int32) * v5)) q2923 q105 q2921 q2922 hd_X3_copies (by decide) (by decide) rfl (by simp [zcat_rf, zcat_i, zcat_j, zcat_f, zcat_d]) (fun z hz => by cases hz) dX3_keeps_73 (fun _ => ?_)
  show zS _ 76 _ [] _
  refine zs_aload_n hE 0 rfl rfl dX3_keeps_76 ?_
  refine zs_dup hE (zcat_rf _) dX3_keeps_77 ?_
  refine zs_getI hE (ci := 35) (k := 6) rfl (by decide) in_X3 (Or.inl q2835) (Or.inl rfl) dX3_keeps_78 (fun v6 => ?_)
  refine zs_iconst hE (v := (1 : Int32)) (by decide) dX3_keeps_81 ?_
  refine zs_iadd hE dX3_keeps_82 ?_
  refine zs_putI hE (ci := 35) (k := 6) rfl (by decide) in_X3 (Or.inl q2835) (Or.inl rfl) (Or.inl rfl) (fun h => nomatch h) rfl dX3_keeps_83 ?_
  refine zs_iload_n hE 1 rfl rfl dX3_keeps_86 ?_
  exact zs_iret hE dX3_keeps_87
theorem sm_X3_keeps_B11 {x : ZX Int32} {K : ZK} (hE : zE x K cX3_keeps RX3 "keeps" 3 2 124 encI (Option.some Jvm.ClassFile.FieldType.int) []) (x0 : Nat) (x1 : Int32) (self11 : Int32 → ZP Int32) (hs11 : ∀ v : Int32, zS x 11 [(0, va_rf (some x0)), (1, .int x1), (2, .int v)] [] (self11 v)) (x2 : Int32) : zS x 11 [(0, va_rf (some x0)), (1, .int x1), (2, .int x2)] [] (s_X3_keeps_B11 K x0 x1 self11 x2) := by
  unfold s_X3_keeps_B11
  refine zs_iload_n hE 2 rfl rfl dX3_keeps_11 ?_
  refine zs_bipush hE (v := (8 : Int32)) (by decide) dX3_keeps_12 ?_
  refine zs_icmp_ge hE 46 (by decide) dX3_keeps_14 ?_ ?_
  · refine zs_aload_n hE 0 rfl rfl dX3_keeps_46 ?_
    refine zs_dup hE (zcat_rf _) dX3_keeps_47 ?_
    refine zs_getI hE (ci := 35) (k := 6) rfl (by decide) in_X3 (Or.inl q2835) (Or.inl rfl) dX3_keeps_48 (fun v2 => ?_)
    refine zs_iconst hE (v := (1 : Int32)) (by decide) dX3_keeps_51 ?_
    refine zs_isub hE dX3_keeps_52 ?_
    refine zs_putI hE (ci := 35) (k := 6) rfl (by decide) in_X3 (Or.inl q2835) (Or.inl rfl) (Or.inl rfl) (fun h => nomatch h) rfl dX3_keeps_53 ?_
    refine zs_sub [0, 1] rfl ?_
    exact sm_X3_keeps_J56 hE x0 x1
  · refine zs_aload_n hE 0 rfl rfl dX3_keeps_17 ?_
    refine zs_getR hE (ci := 35) (k := 4) rfl (by decide) in_X3 (Or.inl q2833) (Or.inl rfl) dX3_keeps_18 (fun v7 => ?_)
    refine zs_sipush hE (v := (671 : Int32)) (by decide) dX3_keeps_21 ?_
    refine zs_iload_n hE 2 rfl rfl dX3_keeps_24 ?_
    refine zs_imul hE dX3_keeps_25 ?_
    refine zs_aload_n hE 0 rfl rfl dX3_keeps_26 ?_
    refine zs_getR hE (ci := 35) (k := 4) rfl (by decide) in_X3 (Or.inl q2833) (Or.inl rfl) dX3_keeps_27 (fun v8 => ?_)
    refine zs_sipush hE (v := (671 : Int32)) (by decide) dX3_keeps_30 ?_
    refine zs_iload_n hE 2 rfl rfl dX3_keeps_33 ?_
    refine zs_iconst hE (v := (1 : Int32)) (by decide) dX3_keeps_34 ?_
    refine zs_isub hE dX3_keeps_35 ?_
    refine zs_imul hE dX3_keeps_36 ?_
    refine zs_callS hE (As := [va_rf v7, .int ((671 : Int32) * x2), va_rf v8, .int ((671 : Int32) * (x2 - (1 : Int32)))]) (encA := encV) (met_X3_copies K v7 ((671 : Int32) * x2) v8 ((671 : Int32) * (x2 - (1 : Int32)))) q2923 q105 q2921 q2922 hd_X3_copies (by decide) (by decide) rfl (by simp [zcat_rf, zcat_i, zcat_j, zcat_f, zcat_d]) (fun z hz => by cases hz) dX3_keeps_37 (fun _ => ?_)
    show zS _ 40 _ [] _
    refine zs_iinc hE 2 (v := (1 : Int32)) rfl (by decide) (by decide) (rfl) (lv' := [(0, va_rf (some x0)), (1, .int x1)]) rfl dX3_keeps_40 ?_
    refine zs_goto hE 11 (by decide) dX3_keeps_43 ?_
    refine zs_sub [1, 2, 0] rfl ?_
    exact hs11 (x2 + (1 : Int32))
theorem sm_X3_keeps_L11 {x : ZX Int32} {K : ZK} (hE : zE x K cX3_keeps RX3 "keeps" 3 2 124 encI (Option.some Jvm.ClassFile.FieldType.int) []) (x0 : Nat) (x1 : Int32) (v : Int32) : zS x 11 [(0, va_rf (some x0)), (1, .int x1), (2, .int v)] [] (s_X3_keeps_L11 K x0 x1 v) := by
  unfold s_X3_keeps_L11
  exact zs_loop (lvf := fun v => [(0, va_rf (some x0)), (1, .int x1), (2, .int v)]) (fun self11 hs11 v => sm_X3_keeps_B11 hE x0 x1 self11 hs11 v) v
theorem sm_X3_keeps {x : ZX Int32} {K : ZK} (hE : zE x K cX3_keeps RX3 "keeps" 3 2 124 encI (Option.some Jvm.ClassFile.FieldType.int) []) (this : Nat) (a1 : Int32) : zS x 0 [(0, va_rf (some this)), (1, .int a1)] [] (s_X3_keeps K this a1) := by
  unfold s_X3_keeps
  refine zs_aload_n hE 0 rfl rfl dX3_keeps_0 ?_
  refine zs_getI hE (ci := 35) (k := 6) rfl (by decide) in_X3 (Or.inl q2835) (Or.inl rfl) dX3_keeps_1 (fun v1 => ?_)
  refine zs_bipush hE (v := (8 : Int32)) (by decide) dX3_keeps_4 ?_
  refine zs_icmp_ne hE 56 (by decide) dX3_keeps_6 ?_ ?_
  · refine zs_iconst hE (v := (1 : Int32)) (by decide) dX3_keeps_9 ?_
    refine zs_istore_n hE (i := 2) (q := 2) rfl (by decide) (rfl) (lv' := [(0, va_rf (some this)), (1, .int a1)]) rfl dX3_keeps_10 ?_
    refine zs_sub [1, 2, 0] rfl ?_
    exact sm_X3_keeps_L11 hE this a1 (1 : Int32)
  · exact sm_X3_keeps_J56 hE this a1
theorem hd_X3_keeps : (yX3_keeps).cls ≠ "java/lang/invoke/MethodHandle" ∧ (yX3_keeps).cls ≠ "java/lang/invoke/VarHandle" ∧ (parseMethodDescriptor (yX3_keeps).desc).map (fun d => d.parameters.length) = some 1 := by decide +kernel
theorem met_X3_keeps (K : ZK) (this : Nat) (a1 : Int32) : zMeth K yX3_keeps (zws yX3_keeps cX3_keeps 3 (Option.some Jvm.ClassFile.FieldType.int)) 2 124 [.ref this, .int a1] encI (s_X3_keeps K this a1) :=
  fun l G hl hK => zmet_of hl hK (by decide +kernel) rfl rfl (by simp [zsl_nil, zsl_rf, zsl_r, zsl_i, zsl_j, zsl_f, zsl_d]) (fun x hE => by simp only [zla_nil, zla_rf, zla_r, zla_i, zla_j, zla_f, zla_d, Nat.reduceAdd]; exact sm_X3_keeps hE this a1)
theorem sm_X3_no {x : ZX Int32} {K : ZK} (hE : zE x K cX3_no RX3 "no" 2 1 100 encI (Option.some Jvm.ClassFile.FieldType.int) []) (this : Nat) (a1 : Int32) : zS x 0 [(0, va_rf (some this)), (1, .int a1)] [] (s_X3_no K this a1) := by
  unfold s_X3_no
  refine zs_aload_n hE 0 rfl rfl dX3_no_0 ?_
  refine zs_iload_n hE 1 rfl rfl dX3_no_1 ?_
  refine zs_putI hE (ci := 35) (k := 5) rfl (by decide) in_X3 (Or.inl q2834) (Or.inl rfl) (Or.inl rfl) (fun h => nomatch h) rfl dX3_no_2 ?_
  refine zs_iconst hE (v := (0 : Int32)) (by decide) dX3_no_5 ?_
  exact zs_iret hE dX3_no_6
theorem hd_X3_no : (yX3_no).cls ≠ "java/lang/invoke/MethodHandle" ∧ (yX3_no).cls ≠ "java/lang/invoke/VarHandle" ∧ (parseMethodDescriptor (yX3_no).desc).map (fun d => d.parameters.length) = some 1 := by decide +kernel
theorem met_X3_no (K : ZK) (this : Nat) (a1 : Int32) : zMeth K yX3_no (zws yX3_no cX3_no 2 (Option.some Jvm.ClassFile.FieldType.int)) 1 100 [.ref this, .int a1] encI (s_X3_no K this a1) :=
  fun l G hl hK => zmet_of hl hK (by decide +kernel) rfl rfl (by simp [zsl_nil, zsl_rf, zsl_r, zsl_i, zsl_j, zsl_f, zsl_d]) (fun x hE => by simp only [zla_nil, zla_rf, zla_r, zla_i, zla_j, zla_f, zla_d, Nat.reduceAdd]; exact sm_X3_no hE this a1)
theorem sm_X3_refused {x : ZX Int32} {K : ZK} (hE : zE x K cX3_refused RX3 "refused" 1 2 121 encI (Option.some Jvm.ClassFile.FieldType.int) []) (this : Nat) : zS x 0 [(0, va_rf (some this))] [] (s_X3_refused K this) := by
  unfold s_X3_refused
  refine zs_aload_n hE 0 rfl rfl dX3_refused_0 ?_
  refine zs_aload_n hE 0 rfl rfl dX3_refused_1 ?_
  refine zs_getI hE (ci := 35) (k := 7) rfl (by decide) in_X3 (Or.inl q2836) (Or.inl rfl) dX3_refused_2 (fun v1 => ?_)
  refine zs_putI hE (ci := 35) (k := 9) rfl (by decide) in_X3 (Or.inl q2838) (Or.inl rfl) (Or.inl rfl) (fun h => nomatch h) rfl dX3_refused_5 ?_
  refine zs_aload_n hE 0 rfl rfl dX3_refused_8 ?_
  refine zs_aload_n hE 0 rfl rfl dX3_refused_9 ?_
  refine zs_getI hE (ci := 35) (k := 8) rfl (by decide) in_X3 (Or.inl q2837) (Or.inl rfl) dX3_refused_10 (fun v2 => ?_)
  refine zs_putI hE (ci := 35) (k := 10) rfl (by decide) in_X3 (Or.inl q2839) (Or.inl rfl) (Or.inl rfl) (fun h => nomatch h) rfl dX3_refused_13 ?_
  refine zs_aload_n hE 0 rfl rfl dX3_refused_16 ?_
  refine zs_iconst hE (v := (0 : Int32)) (by decide) dX3_refused_17 ?_
  refine zs_putI hE (ci := 35) (k := 11) rfl (by decide) in_X3 (Or.inl q2840) (Or.inl rfl) (Or.inl rfl) (fun h => nomatch h) rfl dX3_refused_18 ?_
  refine zs_aload_n hE 0 rfl rfl dX3_refused_21 ?_
  refine zs_iconst hE (v := (1 : Int32)) (by decide) dX3_refused_22 ?_
  refine zs_callV hE (As := [.int (1 : Int32)]) (encA := encI) (ci := 35) rfl (fun y0 => met_X3_no K y0 (1 : Int32)) q2953 q105 q2950 q2952 (zq qs52) hd_X3_no (by decide) (by decide) rfl (by simp [zcat_rf, zcat_i, zcat_j, zcat_f, zcat_d]) (fun z hz => by cases hz) dX3_refused_23 (fun r3 => ?_)
  show zS _ 26 _ [.int r3] _
  exact zs_iret hE dX3_refused_26
theorem hd_X3_refused : (yX3_refused).cls ≠ "java/lang/invoke/MethodHandle" ∧ (yX3_refused).cls ≠ "java/lang/invoke/VarHandle" ∧ (parseMethodDescriptor (yX3_refused).desc).map (fun d => d.parameters.length) = some 0 := by decide +kernel
theorem met_X3_refused (K : ZK) (this : Nat) : zMeth K yX3_refused (zws yX3_refused cX3_refused 1 (Option.some Jvm.ClassFile.FieldType.int)) 2 121 [.ref this] encI (s_X3_refused K this) :=
  fun l G hl hK => zmet_of hl hK (by decide +kernel) rfl rfl (by simp [zsl_nil, zsl_rf, zsl_r, zsl_i, zsl_j, zsl_f, zsl_d]) (fun x hE => by simp only [zla_nil, zla_rf, zla_r, zla_i, zla_j, zla_f, zla_d, Nat.reduceAdd]; exact sm_X3_refused hE this)
theorem sm_X3_join {x : ZX Int32} {K : ZK} (hE : zE x K cX3_join RX3 "join" 2 4 165 encI (Option.some Jvm.ClassFile.FieldType.int) []) (this : Nat) (a1 : Int32) : zS x 0 [(0, va_rf (some this)), (1, .int a1)] [] (s_X3_join K this a1) := by
  unfold s_X3_join
  refine zs_aload_n hE 0 rfl rfl dX3_join_0 ?_
  refine zs_callV hE (As := []) (encA := encV) (ci := 35) rfl (fun y0 => met_X3_begins K y0) q2920 q105 q2917 q2919 (zq qs46) hd_X3_begins (by decide) (by decide) rfl (by simp [zcat_rf, zcat_i, zcat_j, zcat_f, zcat_d]) (fun z hz => by cases hz) dX3_join_1 (fun _ => ?_)
  show zS _ 4 _ [] _
  refine zs_aload_n hE 0 rfl rfl dX3_join_4 ?_
  refine zs_iload_n hE 1 rfl rfl dX3_join_5 ?_
  refine zs_callV hE (As := [.int a1]) (encA := encI) (ci := 35) rfl (fun y0 => met_X3_isRefusedJoin K y0 a1) q2927 q105 q2924 q2926 (zq qs47) hd_X3_isRefusedJoin (by decide) (by decide) rfl (by simp [zcat_rf, zcat_i, zcat_j, zcat_f, zcat_d]) (fun z hz => by cases hz) dX3_join_6 (fun r1 => ?_)
  show zS _ 9 _ [.int r1] _
  refine zs_if_eq hE 19 (by decide) dX3_join_9 ?_ ?_
  · refine zs_aload_n hE 0 rfl rfl dX3_join_19 ?_
    refine zs_aload_n hE 0 rfl rfl dX3_join_20 ?_
    refine zs_iload_n hE 1 rfl rfl dX3_join_21 ?_
    refine zs_callV hE (As := [.int a1]) (encA := encI) (ci := 35) rfl (fun y0 => met_X3_joins K y0 a1) q2957 q105 q2954 q2956 (zq qs53) hd_X3_joins (by decide) (by decide) rfl (by simp [zcat_rf, zcat_i, zcat_j, zcat_f, zcat_d]) (fun z hz => by cases hz) dX3_join_22 (fun r2 => ?_)
    show zS _ 25 _ [.int r2, va_rf (some this)] _
    refine zs_callV hE (As := [.int r2]) (encA := encI) (ci := 35) rfl (fun y0 => met_X3_keeps K y0 r2) q2965 q105 q2962 q2964 (zq qs55) hd_X3_keeps (by decide) (by decide) rfl (by simp [zcat_rf, zcat_i, zcat_j, zcat_f, zcat_d]) (fun z hz => by cases hz) dX3_join_25 (fun r3 => ?_)
    show zS _ 28 _ [.int r3] _
    exact zs_iret hE dX3_join_28
  · refine zs_aload_n hE 0 rfl rfl dX3_join_12 ?_
    refine zs_callV hE (As := []) (encA := encI) (ci := 35) rfl (fun y0 => met_X3_refused K y0) q2949 q105 q2946 q2948 (zq qs51) hd_X3_refused (by decide) (by decide) rfl (by simp [zcat_rf, zcat_i, zcat_j, zcat_f, zcat_d]) (fun z hz => by cases hz) dX3_join_13 (fun r4 => ?_)
    show zS _ 16 _ [.int r4] _
    refine zs_goto hE 28 (by decide) dX3_join_16 ?_
    exact zs_iret hE dX3_join_28
theorem hd_X3_join : (yX3_join).cls ≠ "java/lang/invoke/MethodHandle" ∧ (yX3_join).cls ≠ "java/lang/invoke/VarHandle" ∧ (parseMethodDescriptor (yX3_join).desc).map (fun d => d.parameters.length) = some 1 := by decide +kernel
theorem met_X3_join (K : ZK) (this : Nat) (a1 : Int32) : zMeth K yX3_join (zws yX3_join cX3_join 2 (Option.some Jvm.ClassFile.FieldType.int)) 4 165 [.ref this, .int a1] encI (s_X3_join K this a1) :=
  fun l G hl hK => zmet_of hl hK (by decide +kernel) rfl rfl (by simp [zsl_nil, zsl_rf, zsl_r, zsl_i, zsl_j, zsl_f, zsl_d]) (fun x hE => by simp only [zla_nil, zla_rf, zla_r, zla_i, zla_j, zla_f, zla_d, Nat.reduceAdd]; exact sm_X3_join hE this a1)
theorem sm_X3_isOut {x : ZX Int32} {K : ZK} (hE : zE x K cX3_isOut RX3 "isOut" 2 3 144 encI (Option.some Jvm.ClassFile.FieldType.boolean) []) (this : Nat) (a1 : Int32) : zS x 0 [(0, va_rf (some this)), (1, .int a1)] [] (s_X3_isOut K this a1) := by
  unfold s_X3_isOut
  refine zs_aload_n hE 0 rfl rfl dX3_isOut_0 ?_
  refine zs_iload_n hE 1 rfl rfl dX3_isOut_1 ?_
  refine zs_callV hE (As := [.int a1]) (encA := encI) (ci := 35) rfl (fun y0 => met_X3_placeOf K y0 a1) q2941 q105 q2938 q2940 (zq qs49) hd_X3_placeOf (by decide) (by decide) rfl (by simp [zcat_rf, zcat_i, zcat_j, zcat_f, zcat_d]) (fun z hz => by cases hz) dX3_isOut_2 (fun r1 => ?_)
  show zS _ 5 _ [.int r1] _
  refine zs_if_ge hE 21 (by decide) dX3_isOut_5 ?_ ?_
  · refine zs_iconst hE (v := (0 : Int32)) (by decide) dX3_isOut_21 ?_
    exact zs_zret hE rfl dX3_isOut_22
  · refine zs_aload_n hE 0 rfl rfl dX3_isOut_8 ?_
    refine zs_iconst hE (v := (3 : Int32)) (by decide) dX3_isOut_9 ?_
    refine zs_iload_n hE 1 rfl rfl dX3_isOut_10 ?_
    refine zs_callV hE (As := [.int (3 : Int32), .int a1]) (encA := encI) (ci := 35) rfl (fun y0 => met_X3_isBad K y0 (3 : Int32) a1) q2937 q105 q2934 q2936 (zq qs48) hd_X3_isBad (by decide) (by decide) rfl (by simp [zcat_rf, zcat_i, zcat_j, zcat_f, zcat_d]) (fun z hz => by cases hz) dX3_isOut_11 (fun r2 => ?_)
    show zS _ 14 _ [.int r2] _
    refine zs_if_eq hE 21 (by decide) dX3_isOut_14 ?_ ?_
    · refine zs_iconst hE (v := (0 : Int32)) (by decide) dX3_isOut_21 ?_
      exact zs_zret hE rfl dX3_isOut_22
    · refine zs_iconst hE (v := (1 : Int32)) (by decide) dX3_isOut_17 ?_
      refine zs_goto hE 22 (by decide) dX3_isOut_18 ?_
      exact zs_zret hE rfl dX3_isOut_22
theorem hd_X3_isOut : (yX3_isOut).cls ≠ "java/lang/invoke/MethodHandle" ∧ (yX3_isOut).cls ≠ "java/lang/invoke/VarHandle" ∧ (parseMethodDescriptor (yX3_isOut).desc).map (fun d => d.parameters.length) = some 1 := by decide +kernel
theorem met_X3_isOut (K : ZK) (this : Nat) (a1 : Int32) : zMeth K yX3_isOut (zws yX3_isOut cX3_isOut 2 (Option.some Jvm.ClassFile.FieldType.boolean)) 3 144 [.ref this, .int a1] encI (s_X3_isOut K this a1) :=
  fun l G hl hK => zmet_of hl hK (by decide +kernel) rfl rfl (by simp [zsl_nil, zsl_rf, zsl_r, zsl_i, zsl_j, zsl_f, zsl_d]) (fun x hE => by simp only [zla_nil, zla_rf, zla_r, zla_i, zla_j, zla_f, zla_d, Nat.reduceAdd]; exact sm_X3_isOut hE this a1)
theorem sm_X3_losesIt_J24 {x : ZX Int32} {K : ZK} (hE : zE x K cX3_losesIt RX3 "losesIt" 2 1 100 encI (Option.some Jvm.ClassFile.FieldType.int) []) (x0 : Nat) (x1 : Int32) (t0 : Int32) (t1 : Option Nat) : zS x 24 [(0, va_rf (some x0)), (1, .int x1)] [.int t0, va_rf t1] (s_X3_losesIt_J24 K x0 x1 t0 t1) := by
  unfold s_X3_losesIt_J24
  refine zs_dup2_11 hE (rfl) (zcat_rf _) dX3_losesIt_24 ?_
  refine zs_ald hE dX3_losesIt_25 (fun v4 => ?_)
  refine zs_iconst hE (v := (1 : Int32)) (by decide) dX3_losesIt_26 ?_
  refine zs_iadd hE dX3_losesIt_27 ?_
  refine zs_ast hE dX3_losesIt_28 ?_
  refine zs_aload_n hE 0 rfl rfl dX3_losesIt_29 ?_
  refine zs_getR hE (ci := 35) (k := 0) rfl (by decide) in_X3 (Or.inl q2829) (Or.inl rfl) dX3_losesIt_30 (fun v5 => ?_)
  refine zs_bipush hE (v := (18 : Int32)) (by decide) dX3_losesIt_33 ?_
  refine zs_iconst hE (v := (0 : Int32)) (by decide) dX3_losesIt_35 ?_
  refine zs_ast hE dX3_losesIt_36 ?_
  refine zs_iload_n hE 1 rfl rfl dX3_losesIt_37 ?_
  exact zs_iret hE dX3_losesIt_38
theorem sm_X3_losesIt {x : ZX Int32} {K : ZK} (hE : zE x K cX3_losesIt RX3 "losesIt" 2 1 100 encI (Option.some Jvm.ClassFile.FieldType.int) []) (this : Nat) : zS x 0 [(0, va_rf (some this))] [] (s_X3_losesIt K this) := by
  unfold s_X3_losesIt
  refine zs_aload_n hE 0 rfl rfl dX3_losesIt_0 ?_
  refine zs_getR hE (ci := 35) (k := 0) rfl (by decide) in_X3 (Or.inl q2829) (Or.inl rfl) dX3_losesIt_1 (fun v1 => ?_)
  refine zs_bipush hE (v := (18 : Int32)) (by decide) dX3_losesIt_4 ?_
  refine zs_ald hE dX3_losesIt_6 (fun v2 => ?_)
  refine zs_istore_n hE (i := 1) (q := 1) rfl (by decide) (zcat_rf (some this)) (lv' := [(0, va_rf (some this))]) rfl dX3_losesIt_7 ?_
  refine zs_aload_n hE 1 rfl rfl dX3_losesIt_8 ?_
  refine zs_getR hE (ci := 35) (k := 0) rfl (by decide) in_X3 (Or.inl q2829) (Or.inl rfl) dX3_losesIt_9 (fun v3 => ?_)
  refine zs_iload_n hE 0 rfl rfl dX3_losesIt_12 ?_
  refine zs_iconst hE (v := (1 : Int32)) (by decide) dX3_losesIt_13 ?_
  refine zs_icmp_ne hE 22 (by decide) dX3_losesIt_14 ?_ ?_
  · refine zs_bipush hE (v := (17 : Int32)) (by decide) dX3_losesIt_17 ?_
    refine zs_goto hE 24 (by decide) dX3_losesIt_19 ?_
    refine zs_sub [1, 0] rfl ?_
    exact sm_X3_losesIt_J24 hE this v2 (17 : Int32) v3
  · refine zs_bipush hE (v := (9 : Int32)) (by decide) dX3_losesIt_22 ?_
    refine zs_sub [1, 0] rfl ?_
    exact sm_X3_losesIt_J24 hE this v2 (9 : Int32) v3
theorem hd_X3_losesIt : (yX3_losesIt).cls ≠ "java/lang/invoke/MethodHandle" ∧ (yX3_losesIt).cls ≠ "java/lang/invoke/VarHandle" ∧ (parseMethodDescriptor (yX3_losesIt).desc).map (fun d => d.parameters.length) = some 0 := by decide +kernel
theorem met_X3_losesIt (K : ZK) (this : Nat) : zMeth K yX3_losesIt (zws yX3_losesIt cX3_losesIt 2 (Option.some Jvm.ClassFile.FieldType.int)) 1 100 [.ref this] encI (s_X3_losesIt K this) :=
  fun l G hl hK => zmet_of hl hK (by decide +kernel) rfl rfl (by simp [zsl_nil, zsl_rf, zsl_r, zsl_i, zsl_j, zsl_f, zsl_d]) (fun x hE => by simp only [zla_nil, zla_rf, zla_r, zla_i, zla_j, zla_f, zla_d, Nat.reduceAdd]; exact sm_X3_losesIt hE this)
theorem sm_X3_nextOf {x : ZX Int32} {K : ZK} (hE : zE x K cX3_nextOf RX3 "nextOf" 2 3 144 encI (Option.some Jvm.ClassFile.FieldType.int) []) (this : Nat) (a1 : Int32) : zS x 0 [(0, va_rf (some this)), (1, .int a1)] [] (s_X3_nextOf K this a1) := by
  unfold s_X3_nextOf
  refine zs_aload_n hE 0 rfl rfl dX3_nextOf_0 ?_
  refine zs_aload_n hE 0 rfl rfl dX3_nextOf_1 ?_
  refine zs_iload_n hE 1 rfl rfl dX3_nextOf_2 ?_
  refine zs_callV hE (As := [.int a1]) (encA := encI) (ci := 35) rfl (fun y0 => met_X3_placeOf K y0 a1) q2941 q105 q2938 q2940 (zq qs49) hd_X3_placeOf (by decide) (by decide) rfl (by simp [zcat_rf, zcat_i, zcat_j, zcat_f, zcat_d]) (fun z hz => by cases hz) dX3_nextOf_3 (fun r1 => ?_)
  show zS _ 6 _ [.int r1, va_rf (some this)] _
  refine zs_iconst hE (v := (1 : Int32)) (by decide) dX3_nextOf_6 ?_
  refine zs_iadd hE dX3_nextOf_7 ?_
  refine zs_aload_n hE 0 rfl rfl dX3_nextOf_8 ?_
  refine zs_getR hE (ci := 35) (k := 0) rfl (by decide) in_X3 (Or.inl q2829) (Or.inl rfl) dX3_nextOf_9 (fun v2 => ?_)
  refine zs_iconst hE (v := (1 : Int32)) (by decide) dX3_nextOf_12 ?_
  refine zs_ald hE dX3_nextOf_13 (fun v3 => ?_)
  refine zs_irem hE dX3_nextOf_14 ?_
  refine zs_iconst hE (v := (0 : Int32)) (by decide) dX3_nextOf_15 ?_
  refine zs_callV hE (As := [.int ((r1 + (1 : Int32)) - (r1 + (1 : Int32)) / v3 * v3), .int (0 : Int32)]) (encA := encI) (ci := 35) rfl (fun y0 => met_X3_sv K y0 ((r1 + (1 : Int32)) - (r1 + (1 : Int32)) / v3 * v3) (0 : Int32)) q2945 q105 q2942 q2944 (zq qs50) hd_X3_sv (by decide) (by decide) rfl (by simp [zcat_rf, zcat_i, zcat_j, zcat_f, zcat_d]) (fun z hz => by cases hz) dX3_nextOf_16 (fun r4 => ?_)
  show zS _ 19 _ [.int r4] _
  exact zs_iret hE dX3_nextOf_19
theorem hd_X3_nextOf : (yX3_nextOf).cls ≠ "java/lang/invoke/MethodHandle" ∧ (yX3_nextOf).cls ≠ "java/lang/invoke/VarHandle" ∧ (parseMethodDescriptor (yX3_nextOf).desc).map (fun d => d.parameters.length) = some 1 := by decide +kernel
theorem met_X3_nextOf (K : ZK) (this : Nat) (a1 : Int32) : zMeth K yX3_nextOf (zws yX3_nextOf cX3_nextOf 2 (Option.some Jvm.ClassFile.FieldType.int)) 3 144 [.ref this, .int a1] encI (s_X3_nextOf K this a1) :=
  fun l G hl hK => zmet_of hl hK (by decide +kernel) rfl rfl (by simp [zsl_nil, zsl_rf, zsl_r, zsl_i, zsl_j, zsl_f, zsl_d]) (fun x hE => by simp only [zla_nil, zla_rf, zla_r, zla_i, zla_j, zla_f, zla_d, Nat.reduceAdd]; exact sm_X3_nextOf hE this a1)
theorem sm_X3_leaves_B130 {x : ZX Int32} {K : ZK} (hE : zE x K cX3_leaves RX3 "leaves" 6 4 165 encI (Option.some Jvm.ClassFile.FieldType.int) []) (x0 : Nat) (x3 : Int32) (x4 : Int32) (self116 : Int32 → ZP Int32) (self130 : Int32 → ZP Int32) (hs116 : ∀ v : Int32, zS x 116 [(0, va_rf (some x0)), (3, .int x3), (4, .int v)] [] (self116 v)) (hs130 : ∀ v : Int32, zS x 130 [(0, va_rf (some x0)), (3, .int x3), (4, .int x4), (5, .int v)] [] (self130 v)) (x5 : Int32) : zS x 130 [(0, va_rf (some x0)), (3, .int x3), (4, .int x4), (5, .int x5)] [] (s_X3_leaves_B130 K x0 x3 x4 self116 self130 x5) := by
  unfold s_X3_leaves_B130
  refine zs_iload hE 3 rfl dX3_leaves_130 ?_
  refine zs_bipush hE (v := (64 : Int32)) (by decide) dX3_leaves_132 ?_
  refine zs_icmp_ge hE 161 (by decide) dX3_leaves_134 ?_ ?_
  · refine zs_iinc hE 2 (v := (1 : Int32)) rfl (by decide) (by decide) (rfl) (lv' := [(0, va_rf (some x0)), (3, .int x3), (5, .int x5)]) rfl dX3_leaves_161 ?_
    refine zs_goto hE 116 (by decide) dX3_leaves_164 ?_
    refine zs_sub [1, 2, 0] rfl ?_
    exact hs116 (x4 + (1 : Int32))
  · refine zs_aload_n hE 0 rfl rfl dX3_leaves_137 ?_
    refine zs_iload hE 2 rfl dX3_leaves_138 ?_
    refine zs_iload hE 3 rfl dX3_leaves_140 ?_
    refine zs_aload_n hE 0 rfl rfl dX3_leaves_142 ?_
    refine zs_iload hE 2 rfl dX3_leaves_143 ?_
    refine zs_iconst hE (v := (1 : Int32)) (by decide) dX3_leaves_145 ?_
    refine zs_iadd hE dX3_leaves_146 ?_
    refine zs_iload hE 3 rfl dX3_leaves_147 ?_
    refine zs_callV hE (As := [.int (x4 + (1 : Int32)), .int x5]) (encA := encI) (ci := 35) rfl (fun y0 => met_X3_sv K y0 (x4 + (1 : Int32)) x5) q2945 q105 q2942 q2944 (zq qs50) hd_X3_sv (by decide) (by decide) rfl (by simp [zcat_rf, zcat_i, zcat_j, zcat_f, zcat_d]) (fun z hz => by cases hz) dX3_leaves_149 (fun r14 => ?_)
    show zS _ 152 _ [.int r14, .int x5, .int x4, va_rf (some x0)] _
    refine zs_callV hE (As := [.int x4, .int x5, .int r14]) (encA := encV) (ci := 35) rfl (fun y0 => met_X3_ls K y0 x4 x5 r14) q2961 q105 q2958 q2960 (zq qs54) hd_X3_ls (by decide) (by decide) rfl (by simp [zcat_rf, zcat_i, zcat_j, zcat_f, zcat_d]) (fun z hz => by cases hz) dX3_leaves_152 (fun _ => ?_)
    show zS _ 155 _ [] _
    refine zs_iinc hE 3 (v := (1 : Int32)) rfl (by decide) (by decide) (rfl) (lv' := [(0, va_rf (some x0)), (3, .int x3), (4, .int x4)]) rfl dX3_leaves_155 ?_
    refine zs_goto hE 130 (by decide) dX3_leaves_158 ?_
    refine zs_sub [1, 2, 3, 0] rfl ?_
    exact hs130 (x5 + (1 : Int32))
theorem sm_X3_leaves_L130 {x : ZX Int32} {K : ZK} (hE : zE x K cX3_leaves RX3 "leaves" 6 4 165 encI (Option.some Jvm.ClassFile.FieldType.int) []) (x0 : Nat) (x3 : Int32) (x4 : Int32) (self116 : Int32 → ZP Int32) (hs116 : ∀ v : Int32, zS x 116 [(0, va_rf (some x0)), (3, .int x3), (4, .int v)] [] (self116 v)) (v : Int32) : zS x 130 [(0, va_rf (some x0)), (3, .int x3), (4, .int x4), (5, .int v)] [] (s_X3_leaves_L130 K x0 x3 x4 self116 v) := by
  unfold s_X3_leaves_L130
  exact zs_loop (lvf := fun v => [(0, va_rf (some x0)), (3, .int x3), (4, .int x4), (5, .int v)]) (fun self130 hs130 v => sm_X3_leaves_B130 hE x0 x3 x4 self116 self130 hs116 hs130 v) v
theorem sm_X3_leaves_B116 {x : ZX Int32} {K : ZK} (hE : zE x K cX3_leaves RX3 "leaves" 6 4 165 encI (Option.some Jvm.ClassFile.FieldType.int) []) (x0 : Nat) (x3 : Int32) (self116 : Int32 → ZP Int32) (hs116 : ∀ v : Int32, zS x 116 [(0, va_rf (some x0)), (3, .int x3), (4, .int v)] [] (self116 v)) (x4 : Int32) : zS x 116 [(0, va_rf (some x0)), (3, .int x3), (4, .int x4)] [] (s_X3_leaves_B116 K x0 x3 self116 x4) := by
  unfold s_X3_leaves_B116
  refine zs_iload hE 2 rfl dX3_leaves_116 ?_
  refine zs_aload_n hE 0 rfl rfl dX3_leaves_118 ?_
  refine zs_getR hE (ci := 35) (k := 0) rfl (by decide) in_X3 (Or.inl q2829) (Or.inl rfl) dX3_leaves_119 (fun v12 => ?_)
  refine zs_iconst hE (v := (1 : Int32)) (by decide) dX3_leaves_122 ?_
  refine zs_ald hE dX3_leaves_123 (fun v13 => ?_)
  refine zs_icmp_ge hE 167 (by decide) dX3_leaves_124 ?_ ?_
  · refine zs_iload_n hE 1 rfl rfl dX3_leaves_167 ?_
    exact zs_iret hE dX3_leaves_168
  · refine zs_iconst hE (v := (0 : Int32)) (by decide) dX3_leaves_127 ?_
    refine zs_istore hE (i := 5) (by decide) (rfl) (lv' := [(0, va_rf (some x0)), (3, .int x3), (4, .int x4)]) rfl dX3_leaves_128 ?_
    refine zs_sub [1, 2, 3, 0] rfl ?_
    exact sm_X3_leaves_L130 hE x0 x3 x4 self116 hs116 (0 : Int32)
theorem sm_X3_leaves_L116 {x : ZX Int32} {K : ZK} (hE : zE x K cX3_leaves RX3 "leaves" 6 4 165 encI (Option.some Jvm.ClassFile.FieldType.int) []) (x0 : Nat) (x3 : Int32) (v : Int32) : zS x 116 [(0, va_rf (some x0)), (3, .int x3), (4, .int v)] [] (s_X3_leaves_L116 K x0 x3 v) := by
  unfold s_X3_leaves_L116
  exact zs_loop (lvf := fun v => [(0, va_rf (some x0)), (3, .int x3), (4, .int v)]) (fun self116 hs116 v => sm_X3_leaves_B116 hE x0 x3 self116 hs116 v) v
theorem sm_X3_leaves_J103 {x : ZX Int32} {K : ZK} (hE : zE x K cX3_leaves RX3 "leaves" 6 4 165 encI (Option.some Jvm.ClassFile.FieldType.int) []) (x0 : Nat) (x2 : Int32) (x3 : Int32) : zS x 103 [(0, va_rf (some x0)), (2, .int x2), (3, .int x3)] [] (s_X3_leaves_J103 K x0 x2 x3) := by
  unfold s_X3_leaves_J103
  refine zs_aload_n hE 0 rfl rfl dX3_leaves_103 ?_
  refine zs_getR hE (ci := 35) (k := 0) rfl (by decide) in_X3 (Or.inl q2829) (Or.inl rfl) dX3_leaves_104 (fun v10 => ?_)
  refine zs_iconst hE (v := (1 : Int32)) (by decide) dX3_leaves_107 ?_
  refine zs_dup2_11 hE (rfl) (zcat_rf _) dX3_leaves_108 ?_
  refine zs_ald hE dX3_leaves_109 (fun v11 => ?_)
  refine zs_iconst hE (v := (1 : Int32)) (by decide) dX3_leaves_110 ?_
  refine zs_isub hE dX3_leaves_111 ?_
  refine zs_ast hE dX3_leaves_112 ?_
  refine zs_iload_n hE 1 rfl rfl dX3_leaves_113 ?_
  refine zs_istore hE (i := 4) (by decide) (rfl) (lv' := [(0, va_rf (some x0)), (2, .int x2), (3, .int x3)]) rfl dX3_leaves_114 ?_
  refine zs_sub [1, 3, 0] rfl ?_
  exact sm_X3_leaves_L116 hE x0 x3 x2
theorem sm_X3_leaves_J86 {x : ZX Int32} {K : ZK} (hE : zE x K cX3_leaves RX3 "leaves" 6 4 165 encI (Option.some Jvm.ClassFile.FieldType.int) []) (x0 : Nat) (x1 : Int32) (x2 : Int32) (x3 : Int32) : zS x 86 [(0, va_rf (some x0)), (1, .int x1), (2, .int x2), (3, .int x3)] [] (s_X3_leaves_J86 K x0 x1 x2 x3) := by
  unfold s_X3_leaves_J86
  refine zs_aload_n hE 0 rfl rfl dX3_leaves_86 ?_
  refine zs_getR hE (ci := 35) (k := 0) rfl (by decide) in_X3 (Or.inl q2829) (Or.inl rfl) dX3_leaves_87 (fun v7 => ?_)
  refine zs_iconst hE (v := (2 : Int32)) (by decide) dX3_leaves_90 ?_
  refine zs_ald hE dX3_leaves_91 (fun v8 => ?_)
  refine zs_iload_n hE 1 rfl rfl dX3_leaves_92 ?_
  refine zs_icmp_ne hE 103 (by decide) dX3_leaves_93 ?_ ?_
  · refine zs_aload_n hE 0 rfl rfl dX3_leaves_96 ?_
    refine zs_getR hE (ci := 35) (k := 0) rfl (by decide) in_X3 (Or.inl q2829) (Or.inl rfl) dX3_leaves_97 (fun v9 => ?_)
    refine zs_iconst hE (v := (2 : Int32)) (by decide) dX3_leaves_100 ?_
    refine zs_iconst hE (v := (-1 : Int32)) (by decide) dX3_leaves_101 ?_
    refine zs_ast hE dX3_leaves_102 ?_
    refine zs_sub [0, 2, 3] rfl ?_
    exact sm_X3_leaves_J103 hE x0 x2 x3
  · refine zs_sub [0, 2, 3] rfl ?_
    exact sm_X3_leaves_J103 hE x0 x2 x3
theorem sm_X3_leaves {x : ZX Int32} {K : ZK} (hE : zE x K cX3_leaves RX3 "leaves" 6 4 165 encI (Option.some Jvm.ClassFile.FieldType.int) []) (this : Nat) (a1 : Int32) : zS x 0 [(0, va_rf (some this)), (1, .int a1)] [] (s_X3_leaves K this a1) := by
  unfold s_X3_leaves
  refine zs_aload_n hE 0 rfl rfl dX3_leaves_0 ?_
  refine zs_iload_n hE 1 rfl rfl dX3_leaves_1 ?_
  refine zs_callV hE (As := [.int a1]) (encA := encI) (ci := 35) rfl (fun y0 => met_X3_placeOf K y0 a1) q2941 q105 q2938 q2940 (zq qs49) hd_X3_placeOf (by decide) (by decide) rfl (by simp [zcat_rf, zcat_i, zcat_j, zcat_f, zcat_d]) (fun z hz => by cases hz) dX3_leaves_2 (fun r1 => ?_)
  show zS _ 5 _ [.int r1] _
  refine zs_istore_n hE (i := 2) (q := 2) rfl (by decide) (rfl) (lv' := [(0, va_rf (some this)), (1, .int a1)]) rfl dX3_leaves_5 ?_
  refine zs_aload_n hE 1 rfl rfl dX3_leaves_6 ?_
  refine zs_iload_n hE 0 rfl rfl dX3_leaves_7 ?_
  refine zs_iconst hE (v := (1 : Int32)) (by decide) dX3_leaves_8 ?_
  refine zs_callV hE (As := [.int r1, .int (1 : Int32)]) (encA := encI) (ci := 35) rfl (fun y0 => met_X3_sv K y0 r1 (1 : Int32)) q2945 q105 q2942 q2944 (zq qs50) hd_X3_sv (by decide) (by decide) rfl (by simp [zcat_rf, zcat_i, zcat_j, zcat_f, zcat_d]) (fun z hz => by cases hz) dX3_leaves_9 (fun r2 => ?_)
  show zS _ 12 _ [.int r2] _
  refine zs_istore_n hE (i := 3) (q := 3) rfl (by decide) (rfl) (lv' := [(2, .int r1), (0, va_rf (some this)), (1, .int a1)]) rfl dX3_leaves_12 ?_
  refine zs_aload_n hE 2 rfl rfl dX3_leaves_13 ?_
  refine zs_getR hE (ci := 35) (k := 0) rfl (by decide) in_X3 (Or.inl q2829) (Or.inl rfl) dX3_leaves_14 (fun v3 => ?_)
  refine zs_bipush hE (v := (10 : Int32)) (by decide) dX3_leaves_17 ?_
  refine zs_dup2_11 hE (rfl) (zcat_rf _) dX3_leaves_19 ?_
  refine zs_ald hE dX3_leaves_20 (fun v4 => ?_)
  refine zs_iload_n hE 0 rfl rfl dX3_leaves_21 ?_
  refine zs_iadd hE dX3_leaves_22 ?_
  refine zs_ast hE dX3_leaves_23 ?_
  refine zs_aload_n hE 2 rfl rfl dX3_leaves_24 ?_
  refine zs_getR hE (ci := 35) (k := 0) rfl (by decide) in_X3 (Or.inl q2829) (Or.inl rfl) dX3_leaves_25 (fun v5 => ?_)
  refine zs_bipush hE (v := (18 : Int32)) (by decide) dX3_leaves_28 ?_
  refine zs_ald hE dX3_leaves_30 (fun v6 => ?_)
  refine zs_if_le hE 86 (by decide) dX3_leaves_31 ?_ ?_
  · refine zs_sub [2, 3, 1, 0] rfl ?_
    exact sm_X3_leaves_J86 hE this a1 r1 r2
  · refine zs_aload_n hE 2 rfl rfl dX3_leaves_34 ?_
    refine zs_getR hE (ci := 35) (k := 0) rfl (by decide) in_X3 (Or.inl q2829) (Or.inl rfl) dX3_leaves_35 (fun v15 => ?_)
    refine zs_bipush hE (v := (19 : Int32)) (by decide) dX3_leaves_38 ?_
    refine zs_ald hE dX3_leaves_40 (fun v16 => ?_)
    refine zs_iload_n hE 3 rfl rfl dX3_leaves_41 ?_
    refine zs_icmp_ne hE 86 (by decide) dX3_leaves_42 ?_ ?_
    · refine zs_aload_n hE 2 rfl rfl dX3_leaves_45 ?_
      refine zs_getR hE (ci := 35) (k := 0) rfl (by decide) in_X3 (Or.inl q2829) (Or.inl rfl) dX3_leaves_46 (fun v17 => ?_)
      refine zs_iconst hE (v := (1 : Int32)) (by decide) dX3_leaves_49 ?_
      refine zs_ald hE dX3_leaves_50 (fun v18 => ?_)
      refine zs_iconst hE (v := (1 : Int32)) (by decide) dX3_leaves_51 ?_
      refine zs_icmp_ne hE 74 (by decide) dX3_leaves_52 ?_ ?_
      · refine zs_iload_n hE 0 rfl rfl dX3_leaves_55 ?_
        refine zs_aload_n hE 2 rfl rfl dX3_leaves_56 ?_
        refine zs_callV hE (As := []) (encA := encI) (ci := 35) rfl (fun y0 => met_X3_losesIt K y0) q2981 q105 q2978 q2980 (zq qs58) hd_X3_losesIt (by decide) (by decide) rfl (by simp [zcat_rf, zcat_i, zcat_j, zcat_f, zcat_d]) (fun z hz => by cases hz) dX3_leaves_57 (fun r19 => ?_)
        show zS _ 60 _ [.int r19, .int r2] _
        refine zs_iconst hE (v := (2 : Int32)) (by decide) dX3_leaves_60 ?_
        refine zs_icmp_ne hE 68 (by decide) dX3_leaves_61 ?_ ?_
        · refine zs_iconst hE (v := (1 : Int32)) (by decide) dX3_leaves_64 ?_
          refine zs_goto hE 69 (by decide) dX3_leaves_65 ?_
          refine zs_iadd hE dX3_leaves_69 ?_
          refine zs_istore_n hE (i := 3) (q := 3) rfl (by decide) (rfl) (lv' := [(2, .int r1), (0, va_rf (some this)), (1, .int a1)]) rfl dX3_leaves_70 ?_
          refine zs_goto hE 86 (by decide) dX3_leaves_71 ?_
          refine zs_sub [2, 3, 1, 0] rfl ?_
          exact sm_X3_leaves_J86 hE this a1 r1 (r2 + (1 : Int32))
        · refine zs_iconst hE (v := (0 : Int32)) (by decide) dX3_leaves_68 ?_
          refine zs_iadd hE dX3_leaves_69 ?_
          refine zs_istore_n hE (i := 3) (q := 3) rfl (by decide) (rfl) (lv' := [(2, .int r1), (0, va_rf (some this)), (1, .int a1)]) rfl dX3_leaves_70 ?_
          refine zs_goto hE 86 (by decide) dX3_leaves_71 ?_
          refine zs_sub [2, 3, 1, 0] rfl ?_
          exact sm_X3_leaves_J86 hE this a1 r1 (r2 + (0 : Int32))
      · refine zs_aload_n hE 2 rfl rfl dX3_leaves_74 ?_
        refine zs_getR hE (ci := 35) (k := 0) rfl (by decide) in_X3 (Or.inl q2829) (Or.inl rfl) dX3_leaves_75 (fun v20 => ?_)
        refine zs_bipush hE (v := (19 : Int32)) (by decide) dX3_leaves_78 ?_
        refine zs_aload_n hE 2 rfl rfl dX3_leaves_80 ?_
        refine zs_iload_n hE 3 rfl rfl dX3_leaves_81 ?_
        refine zs_callV hE (As := [.int a1]) (encA := encI) (ci := 35) rfl (fun y0 => met_X3_nextOf K y0 a1) q2985 q105 q2982 q2984 (zq qs59) hd_X3_nextOf (by decide) (by decide) rfl (by simp [zcat_rf, zcat_i, zcat_j, zcat_f, zcat_d]) (fun z hz => by cases hz) dX3_leaves_82 (fun r21 => ?_)
        show zS _ 85 _ [.int r21, .int (19 : Int32), va_rf v20] _
        refine zs_ast hE dX3_leaves_85 ?_
        refine zs_sub [2, 3, 1, 0] rfl ?_
        exact sm_X3_leaves_J86 hE this a1 r1 r2
    · refine zs_sub [2, 3, 1, 0] rfl ?_
      exact sm_X3_leaves_J86 hE this a1 r1 r2
theorem hd_X3_leaves : (yX3_leaves).cls ≠ "java/lang/invoke/MethodHandle" ∧ (yX3_leaves).cls ≠ "java/lang/invoke/VarHandle" ∧ (parseMethodDescriptor (yX3_leaves).desc).map (fun d => d.parameters.length) = some 1 := by decide +kernel
theorem met_X3_leaves (K : ZK) (this : Nat) (a1 : Int32) : zMeth K yX3_leaves (zws yX3_leaves cX3_leaves 6 (Option.some Jvm.ClassFile.FieldType.int)) 4 165 [.ref this, .int a1] encI (s_X3_leaves K this a1) :=
  fun l G hl hK => zmet_of hl hK (by decide +kernel) rfl rfl (by simp [zsl_nil, zsl_rf, zsl_r, zsl_i, zsl_j, zsl_f, zsl_d]) (fun x hE => by simp only [zla_nil, zla_rf, zla_r, zla_i, zla_j, zla_f, zla_d, Nat.reduceAdd]; exact sm_X3_leaves hE this a1)
theorem sm_X3_leave {x : ZX Int32} {K : ZK} (hE : zE x K cX3_leave RX3 "leave" 2 5 190 encI (Option.some Jvm.ClassFile.FieldType.int) []) (this : Nat) (a1 : Int32) : zS x 0 [(0, va_rf (some this)), (1, .int a1)] [] (s_X3_leave K this a1) := by
  unfold s_X3_leave
  refine zs_aload_n hE 0 rfl rfl dX3_leave_0 ?_
  refine zs_callV hE (As := []) (encA := encV) (ci := 35) rfl (fun y0 => met_X3_begins K y0) q2920 q105 q2917 q2919 (zq qs46) hd_X3_begins (by decide) (by decide) rfl (by simp [zcat_rf, zcat_i, zcat_j, zcat_f, zcat_d]) (fun z hz => by cases hz) dX3_leave_1 (fun _ => ?_)
  show zS _ 4 _ [] _
  refine zs_aload_n hE 0 rfl rfl dX3_leave_4 ?_
  refine zs_iload_n hE 1 rfl rfl dX3_leave_5 ?_
  refine zs_callV hE (As := [.int a1]) (encA := encI) (ci := 35) rfl (fun y0 => met_X3_isOut K y0 a1) q2973 q105 q2970 q2972 (zq qs56) hd_X3_isOut (by decide) (by decide) rfl (by simp [zcat_rf, zcat_i, zcat_j, zcat_f, zcat_d]) (fun z hz => by cases hz) dX3_leave_6 (fun r1 => ?_)
  show zS _ 9 _ [.int r1] _
  refine zs_if_eq hE 19 (by decide) dX3_leave_9 ?_ ?_
  · refine zs_aload_n hE 0 rfl rfl dX3_leave_19 ?_
    refine zs_aload_n hE 0 rfl rfl dX3_leave_20 ?_
    refine zs_iload_n hE 1 rfl rfl dX3_leave_21 ?_
    refine zs_callV hE (As := [.int a1]) (encA := encI) (ci := 35) rfl (fun y0 => met_X3_leaves K y0 a1) q2977 q105 q2974 q2976 (zq qs57) hd_X3_leaves (by decide) (by decide) rfl (by simp [zcat_rf, zcat_i, zcat_j, zcat_f, zcat_d]) (fun z hz => by cases hz) dX3_leave_22 (fun r2 => ?_)
    show zS _ 25 _ [.int r2, va_rf (some this)] _
    refine zs_callV hE (As := [.int r2]) (encA := encI) (ci := 35) rfl (fun y0 => met_X3_keeps K y0 r2) q2965 q105 q2962 q2964 (zq qs55) hd_X3_keeps (by decide) (by decide) rfl (by simp [zcat_rf, zcat_i, zcat_j, zcat_f, zcat_d]) (fun z hz => by cases hz) dX3_leave_25 (fun r3 => ?_)
    show zS _ 28 _ [.int r3] _
    exact zs_iret hE dX3_leave_28
  · refine zs_aload_n hE 0 rfl rfl dX3_leave_12 ?_
    refine zs_callV hE (As := []) (encA := encI) (ci := 35) rfl (fun y0 => met_X3_refused K y0) q2949 q105 q2946 q2948 (zq qs51) hd_X3_refused (by decide) (by decide) rfl (by simp [zcat_rf, zcat_i, zcat_j, zcat_f, zcat_d]) (fun z hz => by cases hz) dX3_leave_13 (fun r4 => ?_)
    show zS _ 16 _ [.int r4] _
    refine zs_goto hE 28 (by decide) dX3_leave_16 ?_
    exact zs_iret hE dX3_leave_28
theorem hd_X3_leave : (yX3_leave).cls ≠ "java/lang/invoke/MethodHandle" ∧ (yX3_leave).cls ≠ "java/lang/invoke/VarHandle" ∧ (parseMethodDescriptor (yX3_leave).desc).map (fun d => d.parameters.length) = some 1 := by decide +kernel
theorem met_X3_leave (K : ZK) (this : Nat) (a1 : Int32) : zMeth K yX3_leave (zws yX3_leave cX3_leave 2 (Option.some Jvm.ClassFile.FieldType.int)) 5 190 [.ref this, .int a1] encI (s_X3_leave K this a1) :=
  fun l G hl hK => zmet_of hl hK (by decide +kernel) rfl rfl (by simp [zsl_nil, zsl_rf, zsl_r, zsl_i, zsl_j, zsl_f, zsl_d]) (fun x hE => by simp only [zla_nil, zla_rf, zla_r, zla_i, zla_j, zla_f, zla_d, Nat.reduceAdd]; exact sm_X3_leave hE this a1)
theorem sm_X3_isRefusedQueue {x : ZX Int32} {K : ZK} (hE : zE x K cX3_isRefusedQueue RX3 "isRefusedQueue" 5 4 165 encI (Option.some Jvm.ClassFile.FieldType.boolean) []) (this : Nat) (a1 : Int32) (a2 : Int32) (a3 : Int32) (a4 : Int32) : zS x 0 [(0, va_rf (some this)), (1, .int a1), (2, .int a2), (3, .int a3), (4, .int a4)] [] (s_X3_isRefusedQueue K this a1 a2 a3 a4) := by
  unfold s_X3_isRefusedQueue
  refine zs_aload_n hE 0 rfl rfl dX3_isRefusedQueue_0 ?_
  refine zs_iload_n hE 1 rfl rfl dX3_isRefusedQueue_1 ?_
  refine zs_callV hE (As := [.int a1]) (encA := encI) (ci := 35) rfl (fun y0 => met_X3_isOut K y0 a1) q2973 q105 q2970 q2972 (zq qs56) hd_X3_isOut (by decide) (by decide) rfl (by simp [zcat_rf, zcat_i, zcat_j, zcat_f, zcat_d]) (fun z hz => by cases hz) dX3_isRefusedQueue_2 (fun r1 => ?_)
  show zS _ 5 _ [.int r1] _
  refine zs_if_eq hE 10 (by decide) dX3_isRefusedQueue_5 ?_ ?_
  · refine zs_iload_n hE 2 rfl rfl dX3_isRefusedQueue_10 ?_
    refine zs_callS hE (As := [.int a2]) (encA := encI) (met_X3_isAddress K a2) q2930 q105 q2928 q2929 hd_X3_isAddress (by decide) (by decide) rfl (by simp [zcat_rf, zcat_i, zcat_j, zcat_f, zcat_d]) (fun z hz => by cases hz) dX3_isRefusedQueue_11 (fun r2 => ?_)
    show zS _ 14 _ [.int r2] _
    refine zs_if_ne hE 24 (by decide) dX3_isRefusedQueue_14 ?_ ?_
    · refine zs_aload_n hE 0 rfl rfl dX3_isRefusedQueue_17 ?_
      refine zs_iconst hE (v := (1 : Int32)) (by decide) dX3_isRefusedQueue_18 ?_
      refine zs_iload_n hE 2 rfl rfl dX3_isRefusedQueue_19 ?_
      refine zs_callV hE (As := [.int (1 : Int32), .int a2]) (encA := encI) (ci := 35) rfl (fun y0 => met_X3_isBad K y0 (1 : Int32) a2) q2937 q105 q2934 q2936 (zq qs48) hd_X3_isBad (by decide) (by decide) rfl (by simp [zcat_rf, zcat_i, zcat_j, zcat_f, zcat_d]) (fun z hz => by cases hz) dX3_isRefusedQueue_20 (fun r3 => ?_)
      show zS _ 23 _ [.int r3] _
      exact zs_zretA hE dX3_isRefusedQueue_23
    · refine zs_iload_n hE 3 rfl rfl dX3_isRefusedQueue_24 ?_
      refine zs_iconst hE (v := (0 : Int32)) (by decide) dX3_isRefusedQueue_25 ?_
      refine zs_iconst hE (v := (3 : Int32)) (by decide) dX3_isRefusedQueue_26 ?_
      refine zs_callS hE (As := [.int a3, .int (0 : Int32), .int (3 : Int32)]) (encA := encI) (met_X3_in K a3 (0 : Int32) (3 : Int32)) q2933 q105 q2931 q2932 hd_X3_in (by decide) (by decide) rfl (by simp [zcat_rf, zcat_i, zcat_j, zcat_f, zcat_d]) (fun z hz => by cases hz) dX3_isRefusedQueue_27 (fun r4 => ?_)
      show zS _ 30 _ [.int r4] _
      refine zs_if_ne hE 40 (by decide) dX3_isRefusedQueue_30 ?_ ?_
      · refine zs_aload_n hE 0 rfl rfl dX3_isRefusedQueue_33 ?_
        refine zs_iconst hE (v := (1 : Int32)) (by decide) dX3_isRefusedQueue_34 ?_
        refine zs_iload_n hE 3 rfl rfl dX3_isRefusedQueue_35 ?_
        refine zs_callV hE (As := [.int (1 : Int32), .int a3]) (encA := encI) (ci := 35) rfl (fun y0 => met_X3_isBad K y0 (1 : Int32) a3) q2937 q105 q2934 q2936 (zq qs48) hd_X3_isBad (by decide) (by decide) rfl (by simp [zcat_rf, zcat_i, zcat_j, zcat_f, zcat_d]) (fun z hz => by cases hz) dX3_isRefusedQueue_36 (fun r5 => ?_)
        show zS _ 39 _ [.int r5] _
        exact zs_zretA hE dX3_isRefusedQueue_39
      · refine zs_iload hE 4 rfl dX3_isRefusedQueue_40 ?_
        refine zs_iconst hE (v := (1 : Int32)) (by decide) dX3_isRefusedQueue_42 ?_
        refine zs_bipush hE (v := (9 : Int32)) (by decide) dX3_isRefusedQueue_43 ?_
        refine zs_callS hE (As := [.int a4, .int (1 : Int32), .int (9 : Int32)]) (encA := encI) (met_X3_in K a4 (1 : Int32) (9 : Int32)) q2933 q105 q2931 q2932 hd_X3_in (by decide) (by decide) rfl (by simp [zcat_rf, zcat_i, zcat_j, zcat_f, zcat_d]) (fun z hz => by cases hz) dX3_isRefusedQueue_45 (fun r6 => ?_)
        show zS _ 48 _ [.int r6] _
        refine zs_if_ne hE 59 (by decide) dX3_isRefusedQueue_48 ?_ ?_
        · refine zs_aload_n hE 0 rfl rfl dX3_isRefusedQueue_51 ?_
          refine zs_iconst hE (v := (1 : Int32)) (by decide) dX3_isRefusedQueue_52 ?_
          refine zs_iload hE 4 rfl dX3_isRefusedQueue_53 ?_
          refine zs_callV hE (As := [.int (1 : Int32), .int a4]) (encA := encI) (ci := 35) rfl (fun y0 => met_X3_isBad K y0 (1 : Int32) a4) q2937 q105 q2934 q2936 (zq qs48) hd_X3_isBad (by decide) (by decide) rfl (by simp [zcat_rf, zcat_i, zcat_j, zcat_f, zcat_d]) (fun z hz => by cases hz) dX3_isRefusedQueue_55 (fun r7 => ?_)
          show zS _ 58 _ [.int r7] _
          exact zs_zretA hE dX3_isRefusedQueue_58
        · refine zs_iload_n hE 1 rfl rfl dX3_isRefusedQueue_59 ?_
          refine zs_iload_n hE 2 rfl rfl dX3_isRefusedQueue_60 ?_
          refine zs_icmp_ne hE 71 (by decide) dX3_isRefusedQueue_61 ?_ ?_
          · refine zs_aload_n hE 0 rfl rfl dX3_isRefusedQueue_64 ?_
            refine zs_iconst hE (v := (5 : Int32)) (by decide) dX3_isRefusedQueue_65 ?_
            refine zs_iload_n hE 1 rfl rfl dX3_isRefusedQueue_66 ?_
            refine zs_callV hE (As := [.int (5 : Int32), .int a1]) (encA := encI) (ci := 35) rfl (fun y0 => met_X3_isBad K y0 (5 : Int32) a1) q2937 q105 q2934 q2936 (zq qs48) hd_X3_isBad (by decide) (by decide) rfl (by simp [zcat_rf, zcat_i, zcat_j, zcat_f, zcat_d]) (fun z hz => by cases hz) dX3_isRefusedQueue_67 (fun r8 => ?_)
            show zS _ 70 _ [.int r8] _
            exact zs_zretA hE dX3_isRefusedQueue_70
          · refine zs_aload_n hE 0 rfl rfl dX3_isRefusedQueue_71 ?_
            refine zs_aload_n hE 0 rfl rfl dX3_isRefusedQueue_72 ?_
            refine zs_iload_n hE 1 rfl rfl dX3_isRefusedQueue_73 ?_
            refine zs_callV hE (As := [.int a1]) (encA := encI) (ci := 35) rfl (fun y0 => met_X3_placeOf K y0 a1) q2941 q105 q2938 q2940 (zq qs49) hd_X3_placeOf (by decide) (by decide) rfl (by simp [zcat_rf, zcat_i, zcat_j, zcat_f, zcat_d]) (fun z hz => by cases hz) dX3_isRefusedQueue_74 (fun r9 => ?_)
            show zS _ 77 _ [.int r9, va_rf (some this)] _
            refine zs_iconst hE (v := (1 : Int32)) (by decide) dX3_isRefusedQueue_77 ?_
            refine zs_callV hE (As := [.int r9, .int (1 : Int32)]) (encA := encI) (ci := 35) rfl (fun y0 => met_X3_sv K y0 r9 (1 : Int32)) q2945 q105 q2942 q2944 (zq qs50) hd_X3_sv (by decide) (by decide) rfl (by simp [zcat_rf, zcat_i, zcat_j, zcat_f, zcat_d]) (fun z hz => by cases hz) dX3_isRefusedQueue_78 (fun r10 => ?_)
            show zS _ 81 _ [.int r10] _
            refine zs_bipush hE (v := (12 : Int32)) (by decide) dX3_isRefusedQueue_81 ?_
            refine zs_icmp_ne hE 100 (by decide) dX3_isRefusedQueue_83 ?_ ?_
            · refine zs_aload_n hE 0 rfl rfl dX3_isRefusedQueue_86 ?_
              refine zs_iconst hE (v := (4 : Int32)) (by decide) dX3_isRefusedQueue_87 ?_
              refine zs_bipush hE (v := (12 : Int32)) (by decide) dX3_isRefusedQueue_88 ?_
              refine zs_callV hE (As := [.int (4 : Int32), .int (12 : Int32)]) (encA := encI) (ci := 35) rfl (fun y0 => met_X3_isBad K y0 (4 : Int32) (12 : Int32)) q2937 q105 q2934 q2936 (zq qs48) hd_X3_isBad (by decide) (by decide) rfl (by simp [zcat_rf, zcat_i, zcat_j, zcat_f, zcat_d]) (fun z hz => by cases hz) dX3_isRefusedQueue_90 (fun r11 => ?_)
              show zS _ 93 _ [.int r11] _
              refine zs_if_eq hE 100 (by decide) dX3_isRefusedQueue_93 ?_ ?_
              · refine zs_iconst hE (v := (0 : Int32)) (by decide) dX3_isRefusedQueue_100 ?_
                exact zs_zret hE rfl dX3_isRefusedQueue_101
              · refine zs_iconst hE (v := (1 : Int32)) (by decide) dX3_isRefusedQueue_96 ?_
                refine zs_goto hE 101 (by decide) dX3_isRefusedQueue_97 ?_
                exact zs_zret hE rfl dX3_isRefusedQueue_101
            · refine zs_iconst hE (v := (0 : Int32)) (by decide) dX3_isRefusedQueue_100 ?_
              exact zs_zret hE rfl dX3_isRefusedQueue_101
  · refine zs_iconst hE (v := (1 : Int32)) (by decide) dX3_isRefusedQueue_8 ?_
    exact zs_zret hE rfl dX3_isRefusedQueue_9
theorem hd_X3_isRefusedQueue : (yX3_isRefusedQueue).cls ≠ "java/lang/invoke/MethodHandle" ∧ (yX3_isRefusedQueue).cls ≠ "java/lang/invoke/VarHandle" ∧ (parseMethodDescriptor (yX3_isRefusedQueue).desc).map (fun d => d.parameters.length) = some 4 := by decide +kernel
theorem met_X3_isRefusedQueue (K : ZK) (this : Nat) (a1 : Int32) (a2 : Int32) (a3 : Int32) (a4 : Int32) : zMeth K yX3_isRefusedQueue (zws yX3_isRefusedQueue cX3_isRefusedQueue 5 (Option.some Jvm.ClassFile.FieldType.boolean)) 4 165 [.ref this, .int a1, .int a2, .int a3, .int a4] encI (s_X3_isRefusedQueue K this a1 a2 a3 a4) :=
  fun l G hl hK => zmet_of hl hK (by decide +kernel) rfl rfl (by simp [zsl_nil, zsl_rf, zsl_r, zsl_i, zsl_j, zsl_f, zsl_d]) (fun x hE => by simp only [zla_nil, zla_rf, zla_r, zla_i, zla_j, zla_f, zla_d, Nat.reduceAdd]; exact sm_X3_isRefusedQueue hE this a1 a2 a3 a4)
theorem sm_X3_qv {x : ZX Int32} {K : ZK} (hE : zE x K cX3_qv RX3 "qv" 4 2 122 encI (Option.some Jvm.ClassFile.FieldType.int) []) (this : Nat) (a1 : Int32) (a2 : Int32) (a3 : Int32) : zS x 0 [(0, va_rf (some this)), (1, .int a1), (2, .int a2), (3, .int a3)] [] (s_X3_qv K this a1 a2 a3) := by
  unfold s_X3_qv
  refine zs_aload_n hE 0 rfl rfl dX3_qv_0 ?_
  refine zs_iload_n hE 1 rfl rfl dX3_qv_1 ?_
  refine zs_iconst hE (v := (4 : Int32)) (by decide) dX3_qv_2 ?_
  refine zs_iconst hE (v := (5 : Int32)) (by decide) dX3_qv_3 ?_
  refine zs_iload_n hE 2 rfl rfl dX3_qv_4 ?_
  refine zs_imul hE dX3_qv_5 ?_
  refine zs_iadd hE dX3_qv_6 ?_
  refine zs_iload_n hE 3 rfl rfl dX3_qv_7 ?_
  refine zs_iadd hE dX3_qv_8 ?_
  refine zs_callV hE (As := [.int a1, .int (((4 : Int32) + ((5 : Int32) * a2)) + a3)]) (encA := encI) (ci := 35) rfl (fun y0 => met_X3_sv K y0 a1 (((4 : Int32) + ((5 : Int32) * a2)) + a3)) q2945 q105 q2942 q2944 (zq qs50) hd_X3_sv (by decide) (by decide) rfl (by simp [zcat_rf, zcat_i, zcat_j, zcat_f, zcat_d]) (fun z hz => by cases hz) dX3_qv_9 (fun r1 => ?_)
  show zS _ 12 _ [.int r1] _
  exact zs_iret hE dX3_qv_12
theorem hd_X3_qv : (yX3_qv).cls ≠ "java/lang/invoke/MethodHandle" ∧ (yX3_qv).cls ≠ "java/lang/invoke/VarHandle" ∧ (parseMethodDescriptor (yX3_qv).desc).map (fun d => d.parameters.length) = some 3 := by decide +kernel
theorem met_X3_qv (K : ZK) (this : Nat) (a1 : Int32) (a2 : Int32) (a3 : Int32) : zMeth K yX3_qv (zws yX3_qv cX3_qv 4 (Option.some Jvm.ClassFile.FieldType.int)) 2 122 [.ref this, .int a1, .int a2, .int a3] encI (s_X3_qv K this a1 a2 a3) :=
  fun l G hl hK => zmet_of hl hK (by decide +kernel) rfl rfl (by simp [zsl_nil, zsl_rf, zsl_r, zsl_i, zsl_j, zsl_f, zsl_d]) (fun x hE => by simp only [zla_nil, zla_rf, zla_r, zla_i, zla_j, zla_f, zla_d, Nat.reduceAdd]; exact sm_X3_qv hE this a1 a2 a3)
theorem sm_X3_queues_J84 {x : ZX Int32} {K : ZK} (hE : zE x K cX3_queues RX3 "queues" 8 3 145 encI (Option.some Jvm.ClassFile.FieldType.int) []) (x0 : Nat) (x2 : Int32) (x3 : Int32) (x4 : Int32) (x5 : Int32) (x6 : Int32) : zS x 84 [(0, va_rf (some x0)), (2, .int x2), (3, .int x3), (4, .int x4), (5, .int x5), (6, .int x6)] [] (s_X3_queues_J84 K x0 x2 x3 x4 x5 x6) := by
  unfold s_X3_queues_J84
  refine zs_iconst hE (v := (4 : Int32)) (by decide) dX3_queues_84 ?_
  refine zs_iconst hE (v := (5 : Int32)) (by decide) dX3_queues_85 ?_
  refine zs_iload hE 5 rfl dX3_queues_86 ?_
  refine zs_imul hE dX3_queues_88 ?_
  refine zs_iadd hE dX3_queues_89 ?_
  refine zs_istore hE (i := 7) (by decide) (rfl) (lv' := [(0, va_rf (some x0)), (2, .int x2), (3, .int x3), (4, .int x4), (5, .int x5), (6, .int x6)]) rfl dX3_queues_90 ?_
  refine zs_aload_n hE 1 rfl rfl dX3_queues_92 ?_
  refine zs_iload hE 5 rfl dX3_queues_93 ?_
  refine zs_iload hE 0 rfl dX3_queues_95 ?_
  refine zs_iconst hE (v := (0 : Int32)) (by decide) dX3_queues_97 ?_
  refine zs_iadd hE dX3_queues_98 ?_
  refine zs_aload_n hE 1 rfl rfl dX3_queues_99 ?_
  refine zs_getR hE (ci := 35) (k := 0) rfl (by decide) in_X3 (Or.inl q2829) (Or.inl rfl) dX3_queues_100 (fun v3 => ?_)
  refine zs_iconst hE (v := (4 : Int32)) (by decide) dX3_queues_103 ?_
  refine zs_ald hE dX3_queues_104 (fun v4 => ?_)
  refine zs_callV hE (As := [.int x5, .int (((4 : Int32) + ((5 : Int32) * x6)) + (0 : Int32)), .int v4]) (encA := encV) (ci := 35) rfl (fun y0 => met_X3_ls K y0 x5 (((4 : Int32) + ((5 : Int32) * x6)) + (0 : Int32)) v4) q2961 q105 q2958 q2960 (zq qs54) hd_X3_ls (by decide) (by decide) rfl (by simp [zcat_rf, zcat_i, zcat_j, zcat_f, zcat_d]) (fun z hz => by cases hz) dX3_queues_105 (fun _ => ?_)
  show zS _ 108 _ [] _
  refine zs_aload_n hE 1 rfl rfl dX3_queues_108 ?_
  refine zs_iload hE 5 rfl dX3_queues_109 ?_
  refine zs_iload hE 0 rfl dX3_queues_111 ?_
  refine zs_iconst hE (v := (1 : Int32)) (by decide) dX3_queues_113 ?_
  refine zs_iadd hE dX3_queues_114 ?_
  refine zs_iload_n hE 2 rfl rfl dX3_queues_115 ?_
  refine zs_callV hE (As := [.int x5, .int (((4 : Int32) + ((5 : Int32) * x6)) + (1 : Int32)), .int x2]) (encA := encV) (ci := 35) rfl (fun y0 => met_X3_ls K y0 x5 (((4 : Int32) + ((5 : Int32) * x6)) + (1 : Int32)) x2) q2961 q105 q2958 q2960 (zq qs54) hd_X3_ls (by decide) (by decide) rfl (by simp [zcat_rf, zcat_i, zcat_j, zcat_f, zcat_d]) (fun z hz => by cases hz) dX3_queues_116 (fun _ => ?_)
  show zS _ 119 _ [] _
  refine zs_aload_n hE 1 rfl rfl dX3_queues_119 ?_
  refine zs_iload hE 5 rfl dX3_queues_120 ?_
  refine zs_iload hE 0 rfl dX3_queues_122 ?_
  refine zs_iconst hE (v := (2 : Int32)) (by decide) dX3_queues_124 ?_
  refine zs_iadd hE dX3_queues_125 ?_
  refine zs_iload_n hE 3 rfl rfl dX3_queues_126 ?_
  refine zs_callV hE (As := [.int x5, .int (((4 : Int32) + ((5 : Int32) * x6)) + (2 : Int32)), .int x3]) (encA := encV) (ci := 35) rfl (fun y0 => met_X3_ls K y0 x5 (((4 : Int32) + ((5 : Int32) * x6)) + (2 : Int32)) x3) q2961 q105 q2958 q2960 (zq qs54) hd_X3_ls (by decide) (by decide) rfl (by simp [zcat_rf, zcat_i, zcat_j, zcat_f, zcat_d]) (fun z hz => by cases hz) dX3_queues_127 (fun _ => ?_)
  show zS _ 130 _ [] _
  refine zs_aload_n hE 1 rfl rfl dX3_queues_130 ?_
  refine zs_iload hE 5 rfl dX3_queues_131 ?_
  refine zs_iload hE 0 rfl dX3_queues_133 ?_
  refine zs_iconst hE (v := (3 : Int32)) (by decide) dX3_queues_135 ?_
  refine zs_iadd hE dX3_queues_136 ?_
  refine zs_iload hE 4 rfl dX3_queues_137 ?_
  refine zs_callV hE (As := [.int x5, .int (((4 : Int32) + ((5 : Int32) * x6)) + (3 : Int32)), .int x4]) (encA := encV) (ci := 35) rfl (fun y0 => met_X3_ls K y0 x5 (((4 : Int32) + ((5 : Int32) * x6)) + (3 : Int32)) x4) q2961 q105 q2958 q2960 (zq qs54) hd_X3_ls (by decide) (by decide) rfl (by simp [zcat_rf, zcat_i, zcat_j, zcat_f, zcat_d]) (fun z hz => by cases hz) dX3_queues_139 (fun _ => ?_)
  show zS _ 142 _ [] _
  refine zs_aload_n hE 1 rfl rfl dX3_queues_142 ?_
  refine zs_iload hE 5 rfl dX3_queues_143 ?_
  refine zs_iload hE 0 rfl dX3_queues_145 ?_
  refine zs_iconst hE (v := (4 : Int32)) (by decide) dX3_queues_147 ?_
  refine zs_iadd hE dX3_queues_148 ?_
  refine zs_aload_n hE 1 rfl rfl dX3_queues_149 ?_
  refine zs_getR hE (ci := 35) (k := 0) rfl (by decide) in_X3 (Or.inl q2829) (Or.inl rfl) dX3_queues_150 (fun v5 => ?_)
  refine zs_iconst hE (v := (0 : Int32)) (by decide) dX3_queues_153 ?_
  refine zs_ald hE dX3_queues_154 (fun v6 => ?_)
  refine zs_callV hE (As := [.int x5, .int (((4 : Int32) + ((5 : Int32) * x6)) + (4 : Int32)), .int v6]) (encA := encV) (ci := 35) rfl (fun y0 => met_X3_ls K y0 x5 (((4 : Int32) + ((5 : Int32) * x6)) + (4 : Int32)) v6) q2961 q105 q2958 q2960 (zq qs54) hd_X3_ls (by decide) (by decide) rfl (by simp [zcat_rf, zcat_i, zcat_j, zcat_f, zcat_d]) (fun z hz => by cases hz) dX3_queues_155 (fun _ => ?_)
  show zS _ 158 _ [] _
  refine zs_aload_n hE 1 rfl rfl dX3_queues_158 ?_
  refine zs_iload hE 5 rfl dX3_queues_159 ?_
  refine zs_iconst hE (v := (1 : Int32)) (by decide) dX3_queues_161 ?_
  refine zs_aload_n hE 1 rfl rfl dX3_queues_162 ?_
  refine zs_iload hE 5 rfl dX3_queues_163 ?_
  refine zs_iconst hE (v := (1 : Int32)) (by decide) dX3_queues_165 ?_
  refine zs_callV hE (As := [.int x5, .int (1 : Int32)]) (encA := encI) (ci := 35) rfl (fun y0 => met_X3_sv K y0 x5 (1 : Int32)) q2945 q105 q2942 q2944 (zq qs50) hd_X3_sv (by decide) (by decide) rfl (by simp [zcat_rf, zcat_i, zcat_j, zcat_f, zcat_d]) (fun z hz => by cases hz) dX3_queues_166 (fun r7 => ?_)
  show zS _ 169 _ [.int r7, .int (1 : Int32), .int x5, va_rf (some x0)] _
  refine zs_iconst hE (v := (1 : Int32)) (by decide) dX3_queues_169 ?_
  refine zs_iadd hE dX3_queues_170 ?_
  refine zs_callV hE (As := [.int x5, .int (1 : Int32), .int (r7 + (1 : Int32))]) (encA := encV) (ci := 35) rfl (fun y0 => met_X3_ls K y0 x5 (1 : Int32) (r7 + (1 : Int32))) q2961 q105 q2958 q2960 (zq qs54) hd_X3_ls (by decide) (by decide) rfl (by simp [zcat_rf, zcat_i, zcat_j, zcat_f, zcat_d]) (fun z hz => by cases hz) dX3_queues_171 (fun _ => ?_)
  show zS _ 174 _ [] _
  refine zs_aload_n hE 1 rfl rfl dX3_queues_174 ?_
  refine zs_getR hE (ci := 35) (k := 0) rfl (by decide) in_X3 (Or.inl q2829) (Or.inl rfl) dX3_queues_175 (fun v8 => ?_)
  refine zs_iconst hE (v := (4 : Int32)) (by decide) dX3_queues_178 ?_
  refine zs_dup2_11 hE (rfl) (zcat_rf _) dX3_queues_179 ?_
  refine zs_ald hE dX3_queues_180 (fun v9 => ?_)
  refine zs_iconst hE (v := (1 : Int32)) (by decide) dX3_queues_181 ?_
  refine zs_iadd hE dX3_queues_182 ?_
  refine zs_ast hE dX3_queues_183 ?_
  refine zs_aload_n hE 1 rfl rfl dX3_queues_184 ?_
  refine zs_getR hE (ci := 35) (k := 0) rfl (by decide) in_X3 (Or.inl q2829) (Or.inl rfl) dX3_queues_185 (fun v10 => ?_)
  refine zs_iconst hE (v := (4 : Int32)) (by decide) dX3_queues_188 ?_
  refine zs_ald hE dX3_queues_189 (fun v11 => ?_)
  refine zs_iconst hE (v := (1 : Int32)) (by decide) dX3_queues_190 ?_
  refine zs_isub hE dX3_queues_191 ?_
  exact zs_iret hE dX3_queues_192
theorem sm_X3_queues_B39 {x : ZX Int32} {K : ZK} (hE : zE x K cX3_queues RX3 "queues" 8 3 145 encI (Option.some Jvm.ClassFile.FieldType.int) []) (x0 : Nat) (x2 : Int32) (x3 : Int32) (x4 : Int32) (x5 : Int32) (x6 : Int32) (self16 : Int32 → ZP Int32) (self39 : Int32 → ZP Int32) (hs16 : ∀ v : Int32, zS x 16 [(0, va_rf (some x0)), (2, .int x2), (3, .int x3), (4, .int x4), (5, .int x5), (6, .int v)] [] (self16 v)) (hs39 : ∀ v : Int32, zS x 39 [(0, va_rf (some x0)), (2, .int x2), (3, .int x3), (4, .int x4), (5, .int x5), (6, .int x6), (7, .int v)] [] (self39 v)) (x7 : Int32) : zS x 39 [(0, va_rf (some x0)), (2, .int x2), (3, .int x3), (4, .int x4), (5, .int x5), (6, .int x6), (7, .int x7)] [] (s_X3_queues_B39 K x0 x2 x3 x4 x5 x6 self16 self39 x7) := by
  unfold s_X3_queues_B39
  refine zs_iload hE 6 rfl dX3_queues_39 ?_
  refine zs_iconst hE (v := (5 : Int32)) (by decide) dX3_queues_41 ?_
  refine zs_icmp_ge hE 78 (by decide) dX3_queues_42 ?_ ?_
  · refine zs_iinc hE 5 (v := (-1 : Int32)) rfl (by decide) (by decide) (rfl) (lv' := [(0, va_rf (some x0)), (2, .int x2), (3, .int x3), (4, .int x4), (5, .int x5), (7, .int x7)]) rfl dX3_queues_78 ?_
    refine zs_goto hE 16 (by decide) dX3_queues_81 ?_
    refine zs_sub [1, 2, 3, 4, 5, 0] rfl ?_
    exact hs16 (x6 + (-1 : Int32))
  · refine zs_aload_n hE 0 rfl rfl dX3_queues_45 ?_
    refine zs_iload hE 4 rfl dX3_queues_46 ?_
    refine zs_iconst hE (v := (4 : Int32)) (by decide) dX3_queues_48 ?_
    refine zs_iconst hE (v := (5 : Int32)) (by decide) dX3_queues_49 ?_
    refine zs_iload hE 5 rfl dX3_queues_50 ?_
    refine zs_imul hE dX3_queues_52 ?_
    refine zs_iadd hE dX3_queues_53 ?_
    refine zs_iload hE 6 rfl dX3_queues_54 ?_
    refine zs_iadd hE dX3_queues_56 ?_
    refine zs_aload_n hE 0 rfl rfl dX3_queues_57 ?_
    refine zs_iload hE 4 rfl dX3_queues_58 ?_
    refine zs_iload hE 5 rfl dX3_queues_60 ?_
    refine zs_iconst hE (v := (1 : Int32)) (by decide) dX3_queues_62 ?_
    refine zs_isub hE dX3_queues_63 ?_
    refine zs_iload hE 6 rfl dX3_queues_64 ?_
    refine zs_callV hE (As := [.int x5, .int (x6 - (1 : Int32)), .int x7]) (encA := encI) (ci := 35) rfl (fun y0 => met_X3_qv K y0 x5 (x6 - (1 : Int32)) x7) q3001 q105 q2998 q3000 (zq qs62) hd_X3_qv (by decide) (by decide) rfl (by simp [zcat_rf, zcat_i, zcat_j, zcat_f, zcat_d]) (fun z hz => by cases hz) dX3_queues_66 (fun r13 => ?_)
    show zS _ 69 _ [.int r13, .int (((4 : Int32) + ((5 : Int32) * x6)) + x7), .int x5, va_rf (some x0)] _
    refine zs_callV hE (As := [.int x5, .int (((4 : Int32) + ((5 : Int32) * x6)) + x7), .int r13]) (encA := encV) (ci := 35) rfl (fun y0 => met_X3_ls K y0 x5 (((4 : Int32) + ((5 : Int32) * x6)) + x7) r13) q2961 q105 q2958 q2960 (zq qs54) hd_X3_ls (by decide) (by decide) rfl (by simp [zcat_rf, zcat_i, zcat_j, zcat_f, zcat_d]) (fun z hz => by cases hz) dX3_queues_69 (fun _ => ?_)
    show zS _ 72 _ [] _
    refine zs_iinc hE 6 (v := (1 : Int32)) rfl (by decide) (by decide) (rfl) (lv' := [(0, va_rf (some x0)), (2, .int x2), (3, .int x3), (4, .int x4), (5, .int x5), (6, .int x6)]) rfl dX3_queues_72 ?_
    refine zs_goto hE 39 (by decide) dX3_queues_75 ?_
    refine zs_sub [1, 2, 3, 4, 5, 6, 0] rfl ?_
    exact hs39 (x7 + (1 : Int32))
theorem sm_X3_queues_L39 {x : ZX Int32} {K : ZK} (hE : zE x K cX3_queues RX3 "queues" 8 3 145 encI (Option.some Jvm.ClassFile.FieldType.int) []) (x0 : Nat) (x2 : Int32) (x3 : Int32) (x4 : Int32) (x5 : Int32) (x6 : Int32) (self16 : Int32 → ZP Int32) (hs16 : ∀ v : Int32, zS x 16 [(0, va_rf (some x0)), (2, .int x2), (3, .int x3), (4, .int x4), (5, .int x5), (6, .int v)] [] (self16 v)) (v : Int32) : zS x 39 [(0, va_rf (some x0)), (2, .int x2), (3, .int x3), (4, .int x4), (5, .int x5), (6, .int x6), (7, .int v)] [] (s_X3_queues_L39 K x0 x2 x3 x4 x5 x6 self16 v) := by
  unfold s_X3_queues_L39
  exact zs_loop (lvf := fun v => [(0, va_rf (some x0)), (2, .int x2), (3, .int x3), (4, .int x4), (5, .int x5), (6, .int x6), (7, .int v)]) (fun self39 hs39 v => sm_X3_queues_B39 hE x0 x2 x3 x4 x5 x6 self16 self39 hs16 hs39 v) v
theorem sm_X3_queues_B16 {x : ZX Int32} {K : ZK} (hE : zE x K cX3_queues RX3 "queues" 8 3 145 encI (Option.some Jvm.ClassFile.FieldType.int) []) (x0 : Nat) (x2 : Int32) (x3 : Int32) (x4 : Int32) (x5 : Int32) (self16 : Int32 → ZP Int32) (hs16 : ∀ v : Int32, zS x 16 [(0, va_rf (some x0)), (2, .int x2), (3, .int x3), (4, .int x4), (5, .int x5), (6, .int v)] [] (self16 v)) (x6 : Int32) : zS x 16 [(0, va_rf (some x0)), (2, .int x2), (3, .int x3), (4, .int x4), (5, .int x5), (6, .int x6)] [] (s_X3_queues_B16 K x0 x2 x3 x4 x5 self16 x6) := by
  unfold s_X3_queues_B16
  refine zs_iload hE 5 rfl dX3_queues_16 ?_
  refine zs_if_le hE 84 (by decide) dX3_queues_18 ?_ ?_
  · exact sm_X3_queues_J84 hE x0 x2 x3 x4 x5 x6
  · refine zs_aload_n hE 0 rfl rfl dX3_queues_21 ?_
    refine zs_iload hE 4 rfl dX3_queues_22 ?_
    refine zs_iload hE 5 rfl dX3_queues_24 ?_
    refine zs_iconst hE (v := (1 : Int32)) (by decide) dX3_queues_26 ?_
    refine zs_isub hE dX3_queues_27 ?_
    refine zs_iconst hE (v := (2 : Int32)) (by decide) dX3_queues_28 ?_
    refine zs_callV hE (As := [.int x5, .int (x6 - (1 : Int32)), .int (2 : Int32)]) (encA := encI) (ci := 35) rfl (fun y0 => met_X3_qv K y0 x5 (x6 - (1 : Int32)) (2 : Int32)) q3001 q105 q2998 q3000 (zq qs62) hd_X3_qv (by decide) (by decide) rfl (by simp [zcat_rf, zcat_i, zcat_j, zcat_f, zcat_d]) (fun z hz => by cases hz) dX3_queues_29 (fun r12 => ?_)
    show zS _ 32 _ [.int r12] _
    refine zs_iload_n hE 2 rfl rfl dX3_queues_32 ?_
    refine zs_icmp_ge hE 84 (by decide) dX3_queues_33 ?_ ?_
    · exact sm_X3_queues_J84 hE x0 x2 x3 x4 x5 x6
    · refine zs_iconst hE (v := (0 : Int32)) (by decide) dX3_queues_36 ?_
      refine zs_istore hE (i := 7) (by decide) (rfl) (lv' := [(0, va_rf (some x0)), (2, .int x2), (3, .int x3), (4, .int x4), (5, .int x5), (6, .int x6)]) rfl dX3_queues_37 ?_
      refine zs_sub [1, 2, 3, 4, 5, 6, 0] rfl ?_
      exact sm_X3_queues_L39 hE x0 x2 x3 x4 x5 x6 self16 hs16 (0 : Int32)
theorem sm_X3_queues_L16 {x : ZX Int32} {K : ZK} (hE : zE x K cX3_queues RX3 "queues" 8 3 145 encI (Option.some Jvm.ClassFile.FieldType.int) []) (x0 : Nat) (x2 : Int32) (x3 : Int32) (x4 : Int32) (x5 : Int32) (v : Int32) : zS x 16 [(0, va_rf (some x0)), (2, .int x2), (3, .int x3), (4, .int x4), (5, .int x5), (6, .int v)] [] (s_X3_queues_L16 K x0 x2 x3 x4 x5 v) := by
  unfold s_X3_queues_L16
  exact zs_loop (lvf := fun v => [(0, va_rf (some x0)), (2, .int x2), (3, .int x3), (4, .int x4), (5, .int x5), (6, .int v)]) (fun self16 hs16 v => sm_X3_queues_B16 hE x0 x2 x3 x4 x5 self16 hs16 v) v
theorem sm_X3_queues {x : ZX Int32} {K : ZK} (hE : zE x K cX3_queues RX3 "queues" 8 3 145 encI (Option.some Jvm.ClassFile.FieldType.int) []) (this : Nat) (a1 : Int32) (a2 : Int32) (a3 : Int32) (a4 : Int32) : zS x 0 [(0, va_rf (some this)), (1, .int a1), (2, .int a2), (3, .int a3), (4, .int a4)] [] (s_X3_queues K this a1 a2 a3 a4) := by
  unfold s_X3_queues
  refine zs_aload_n hE 0 rfl rfl dX3_queues_0 ?_
  refine zs_iload_n hE 1 rfl rfl dX3_queues_1 ?_
  refine zs_callV hE (As := [.int a1]) (encA := encI) (ci := 35) rfl (fun y0 => met_X3_placeOf K y0 a1) q2941 q105 q2938 q2940 (zq qs49) hd_X3_placeOf (by decide) (by decide) rfl (by simp [zcat_rf, zcat_i, zcat_j, zcat_f, zcat_d]) (fun z hz => by cases hz) dX3_queues_2 (fun r1 => ?_)
  show zS _ 5 _ [.int r1] _
  refine zs_istore hE (i := 5) (by decide) (rfl) (lv' := [(0, va_rf (some this)), (1, .int a1), (2, .int a2), (3, .int a3), (4, .int a4)]) rfl dX3_queues_5 ?_
  refine zs_aload_n hE 1 rfl rfl dX3_queues_7 ?_
  refine zs_iload hE 0 rfl dX3_queues_8 ?_
  refine zs_iconst hE (v := (1 : Int32)) (by decide) dX3_queues_10 ?_
  refine zs_callV hE (As := [.int r1, .int (1 : Int32)]) (encA := encI) (ci := 35) rfl (fun y0 => met_X3_sv K y0 r1 (1 : Int32)) q2945 q105 q2942 q2944 (zq qs50) hd_X3_sv (by decide) (by decide) rfl (by simp [zcat_rf, zcat_i, zcat_j, zcat_f, zcat_d]) (fun z hz => by cases hz) dX3_queues_11 (fun r2 => ?_)
  show zS _ 14 _ [.int r2] _
  refine zs_istore hE (i := 6) (by decide) (rfl) (lv' := [(5, .int r1), (0, va_rf (some this)), (1, .int a1), (2, .int a2), (3, .int a3), (4, .int a4)]) rfl dX3_queues_14 ?_
  refine zs_sub [2, 4, 5, 6, 1, 0] rfl ?_
  exact sm_X3_queues_L16 hE this a2 a3 a4 r1 r2
theorem hd_X3_queues : (yX3_queues).cls ≠ "java/lang/invoke/MethodHandle" ∧ (yX3_queues).cls ≠ "java/lang/invoke/VarHandle" ∧ (parseMethodDescriptor (yX3_queues).desc).map (fun d => d.parameters.length) = some 4 := by decide +kernel
theorem met_X3_queues (K : ZK) (this : Nat) (a1 : Int32) (a2 : Int32) (a3 : Int32) (a4 : Int32) : zMeth K yX3_queues (zws yX3_queues cX3_queues 8 (Option.some Jvm.ClassFile.FieldType.int)) 3 145 [.ref this, .int a1, .int a2, .int a3, .int a4] encI (s_X3_queues K this a1 a2 a3 a4) :=
  fun l G hl hK => zmet_of hl hK (by decide +kernel) rfl rfl (by simp [zsl_nil, zsl_rf, zsl_r, zsl_i, zsl_j, zsl_f, zsl_d]) (fun x hE => by simp only [zla_nil, zla_rf, zla_r, zla_i, zla_j, zla_f, zla_d, Nat.reduceAdd]; exact sm_X3_queues hE this a1 a2 a3 a4)
theorem sm_X3_queue {x : ZX Int32} {K : ZK} (hE : zE x K cX3_queue RX3 "queue" 5 5 189 encI (Option.some Jvm.ClassFile.FieldType.int) []) (this : Nat) (a1 : Int32) (a2 : Int32) (a3 : Int32) (a4 : Int32) : zS x 0 [(0, va_rf (some this)), (1, .int a1), (2, .int a2), (3, .int a3), (4, .int a4)] [] (s_X3_queue K this a1 a2 a3 a4) := by
  unfold s_X3_queue
  refine zs_aload_n hE 0 rfl rfl dX3_queue_0 ?_
  refine zs_callV hE (As := []) (encA := encV) (ci := 35) rfl (fun y0 => met_X3_begins K y0) q2920 q105 q2917 q2919 (zq qs46) hd_X3_begins (by decide) (by decide) rfl (by simp [zcat_rf, zcat_i, zcat_j, zcat_f, zcat_d]) (fun z hz => by cases hz) dX3_queue_1 (fun _ => ?_)
  show zS _ 4 _ [] _
  refine zs_aload_n hE 0 rfl rfl dX3_queue_4 ?_
  refine zs_iload_n hE 1 rfl rfl dX3_queue_5 ?_
  refine zs_iload_n hE 2 rfl rfl dX3_queue_6 ?_
  refine zs_iload_n hE 3 rfl rfl dX3_queue_7 ?_
  refine zs_iload hE 4 rfl dX3_queue_8 ?_
  refine zs_callV hE (As := [.int a1, .int a2, .int a3, .int a4]) (encA := encI) (ci := 35) rfl (fun y0 => met_X3_isRefusedQueue K y0 a1 a2 a3 a4) q2993 q105 q2990 q2992 (zq qs60) hd_X3_isRefusedQueue (by decide) (by decide) rfl (by simp [zcat_rf, zcat_i, zcat_j, zcat_f, zcat_d]) (fun z hz => by cases hz) dX3_queue_10 (fun r1 => ?_)
  show zS _ 13 _ [.int r1] _
  refine zs_if_eq hE 23 (by decide) dX3_queue_13 ?_ ?_
  · refine zs_aload_n hE 0 rfl rfl dX3_queue_23 ?_
    refine zs_aload_n hE 0 rfl rfl dX3_queue_24 ?_
    refine zs_iload_n hE 1 rfl rfl dX3_queue_25 ?_
    refine zs_iload_n hE 2 rfl rfl dX3_queue_26 ?_
    refine zs_iload_n hE 3 rfl rfl dX3_queue_27 ?_
    refine zs_iload hE 4 rfl dX3_queue_28 ?_
    refine zs_callV hE (As := [.int a1, .int a2, .int a3, .int a4]) (encA := encI) (ci := 35) rfl (fun y0 => met_X3_queues K y0 a1 a2 a3 a4) q2997 q105 q2994 q2996 (zq qs61) hd_X3_queues (by decide) (by decide) rfl (by simp [zcat_rf, zcat_i, zcat_j, zcat_f, zcat_d]) (fun z hz => by cases hz) dX3_queue_30 (fun r2 => ?_)
    show zS _ 33 _ [.int r2, va_rf (some this)] _
    refine zs_callV hE (As := [.int r2]) (encA := encI) (ci := 35) rfl (fun y0 => met_X3_keeps K y0 r2) q2965 q105 q2962 q2964 (zq qs55) hd_X3_keeps (by decide) (by decide) rfl (by simp [zcat_rf, zcat_i, zcat_j, zcat_f, zcat_d]) (fun z hz => by cases hz) dX3_queue_33 (fun r3 => ?_)
    show zS _ 36 _ [.int r3] _
    exact zs_iret hE dX3_queue_36
  · refine zs_aload_n hE 0 rfl rfl dX3_queue_16 ?_
    refine zs_callV hE (As := []) (encA := encI) (ci := 35) rfl (fun y0 => met_X3_refused K y0) q2949 q105 q2946 q2948 (zq qs51) hd_X3_refused (by decide) (by decide) rfl (by simp [zcat_rf, zcat_i, zcat_j, zcat_f, zcat_d]) (fun z hz => by cases hz) dX3_queue_17 (fun r4 => ?_)
    show zS _ 20 _ [.int r4] _
    refine zs_goto hE 36 (by decide) dX3_queue_20 ?_
    exact zs_iret hE dX3_queue_36
theorem hd_X3_queue : (yX3_queue).cls ≠ "java/lang/invoke/MethodHandle" ∧ (yX3_queue).cls ≠ "java/lang/invoke/VarHandle" ∧ (parseMethodDescriptor (yX3_queue).desc).map (fun d => d.parameters.length) = some 4 := by decide +kernel
theorem met_X3_queue (K : ZK) (this : Nat) (a1 : Int32) (a2 : Int32) (a3 : Int32) (a4 : Int32) : zMeth K yX3_queue (zws yX3_queue cX3_queue 5 (Option.some Jvm.ClassFile.FieldType.int)) 5 189 [.ref this, .int a1, .int a2, .int a3, .int a4] encI (s_X3_queue K this a1 a2 a3 a4) :=
  fun l G hl hK => zmet_of hl hK (by decide +kernel) rfl rfl (by simp [zsl_nil, zsl_rf, zsl_r, zsl_i, zsl_j, zsl_f, zsl_d]) (fun x hE => by simp only [zla_nil, zla_rf, zla_r, zla_i, zla_j, zla_f, zla_d, Nat.reduceAdd]; exact sm_X3_queue hE this a1 a2 a3 a4)
theorem sm_X3_drop_J42 {x : ZX Int32} {K : ZK} (hE : zE x K cX3_drop RX3 "drop" 4 4 165 encI (Option.some Jvm.ClassFile.FieldType.int) []) (x0 : Nat) (x2 : Int32) : zS x 42 [(0, va_rf (some x0)), (2, .int x2)] [] (s_X3_drop_J42 K x0 x2) := by
  unfold s_X3_drop_J42
  refine zs_aload_n hE 0 rfl rfl dX3_drop_42 ?_
  refine zs_iload_n hE 1 rfl rfl dX3_drop_43 ?_
  refine zs_iconst hE (v := (1 : Int32)) (by decide) dX3_drop_44 ?_
  refine zs_callV hE (As := [.int x2, .int (1 : Int32)]) (encA := encI) (ci := 35) rfl (fun y0 => met_X3_sv K y0 x2 (1 : Int32)) q2945 q105 q2942 q2944 (zq qs50) hd_X3_sv (by decide) (by decide) rfl (by simp [zcat_rf, zcat_i, zcat_j, zcat_f, zcat_d]) (fun z hz => by cases hz) dX3_drop_45 (fun r5 => ?_)
  show zS _ 48 _ [.int r5] _
  refine zs_iconst hE (v := (1 : Int32)) (by decide) dX3_drop_48 ?_
  refine zs_isub hE dX3_drop_49 ?_
  refine zs_istore_n hE (i := 3) (q := 3) rfl (by decide) (rfl) (lv' := [(0, va_rf (some x0)), (2, .int x2)]) rfl dX3_drop_50 ?_
  refine zs_aload_n hE 1 rfl rfl dX3_drop_51 ?_
  refine zs_iload_n hE 2 rfl rfl dX3_drop_52 ?_
  refine zs_iconst hE (v := (1 : Int32)) (by decide) dX3_drop_53 ?_
  refine zs_iload_n hE 0 rfl rfl dX3_drop_54 ?_
  refine zs_callV hE (As := [.int x2, .int (1 : Int32), .int (r5 - (1 : Int32))]) (encA := encV) (ci := 35) rfl (fun y0 => met_X3_ls K y0 x2 (1 : Int32) (r5 - (1 : Int32))) q2961 q105 q2958 q2960 (zq qs54) hd_X3_ls (by decide) (by decide) rfl (by simp [zcat_rf, zcat_i, zcat_j, zcat_f, zcat_d]) (fun z hz => by cases hz) dX3_drop_55 (fun _ => ?_)
  show zS _ 58 _ [] _
  refine zs_aload_n hE 1 rfl rfl dX3_drop_58 ?_
  refine zs_getR hE (ci := 35) (k := 0) rfl (by decide) in_X3 (Or.inl q2829) (Or.inl rfl) dX3_drop_59 (fun v6 => ?_)
  refine zs_bipush hE (v := (11 : Int32)) (by decide) dX3_drop_62 ?_
  refine zs_dup2_11 hE (rfl) (zcat_rf _) dX3_drop_64 ?_
  refine zs_ald hE dX3_drop_65 (fun v7 => ?_)
  refine zs_iconst hE (v := (1 : Int32)) (by decide) dX3_drop_66 ?_
  refine zs_iadd hE dX3_drop_67 ?_
  refine zs_ast hE dX3_drop_68 ?_
  refine zs_aload_n hE 1 rfl rfl dX3_drop_69 ?_
  refine zs_aload_n hE 1 rfl rfl dX3_drop_70 ?_
  refine zs_iload_n hE 2 rfl rfl dX3_drop_71 ?_
  refine zs_iload_n hE 0 rfl rfl dX3_drop_72 ?_
  refine zs_iconst hE (v := (0 : Int32)) (by decide) dX3_drop_73 ?_
  refine zs_callV hE (As := [.int x2, .int (r5 - (1 : Int32)), .int (0 : Int32)]) (encA := encI) (ci := 35) rfl (fun y0 => met_X3_qv K y0 x2 (r5 - (1 : Int32)) (0 : Int32)) q3001 q105 q2998 q3000 (zq qs62) hd_X3_qv (by decide) (by decide) rfl (by simp [zcat_rf, zcat_i, zcat_j, zcat_f, zcat_d]) (fun z hz => by cases hz) dX3_drop_74 (fun r8 => ?_)
  show zS _ 77 _ [.int r8, va_rf (some x0)] _
  refine zs_callV hE (As := [.int r8]) (encA := encI) (ci := 35) rfl (fun y0 => met_X3_keeps K y0 r8) q2965 q105 q2962 q2964 (zq qs55) hd_X3_keeps (by decide) (by decide) rfl (by simp [zcat_rf, zcat_i, zcat_j, zcat_f, zcat_d]) (fun z hz => by cases hz) dX3_drop_77 (fun r9 => ?_)
  show zS _ 80 _ [.int r9] _
  exact zs_iret hE dX3_drop_80
theorem sm_X3_drop_J37 {x : ZX Int32} {K : ZK} (hE : zE x K cX3_drop RX3 "drop" 4 4 165 encI (Option.some Jvm.ClassFile.FieldType.int) []) (x0 : Nat) : zS x 37 [(0, va_rf (some x0))] [] (s_X3_drop_J37 K x0) := by
  unfold s_X3_drop_J37
  refine zs_aload_n hE 0 rfl rfl dX3_drop_37 ?_
  refine zs_callV hE (As := []) (encA := encI) (ci := 35) rfl (fun y0 => met_X3_refused K y0) q2949 q105 q2946 q2948 (zq qs51) hd_X3_refused (by decide) (by decide) rfl (by simp [zcat_rf, zcat_i, zcat_j, zcat_f, zcat_d]) (fun z hz => by cases hz) dX3_drop_38 (fun r10 => ?_)
  show zS _ 41 _ [.int r10] _
  exact zs_iret hE dX3_drop_41
theorem sm_X3_drop {x : ZX Int32} {K : ZK} (hE : zE x K cX3_drop RX3 "drop" 4 4 165 encI (Option.some Jvm.ClassFile.FieldType.int) []) (this : Nat) (a1 : Int32) : zS x 0 [(0, va_rf (some this)), (1, .int a1)] [] (s_X3_drop K this a1) := by
  unfold s_X3_drop
  refine zs_aload_n hE 0 rfl rfl dX3_drop_0 ?_
  refine zs_callV hE (As := []) (encA := encV) (ci := 35) rfl (fun y0 => met_X3_begins K y0) q2920 q105 q2917 q2919 (zq qs46) hd_X3_begins (by decide) (by decide) rfl (by simp [zcat_rf, zcat_i, zcat_j, zcat_f, zcat_d]) (fun z hz => by cases hz) dX3_drop_1 (fun _ => ?_)
  show zS _ 4 _ [] _
  refine zs_aload_n hE 0 rfl rfl dX3_drop_4 ?_
  refine zs_iload_n hE 1 rfl rfl dX3_drop_5 ?_
  refine zs_callV hE (As := [.int a1]) (encA := encI) (ci := 35) rfl (fun y0 => met_X3_placeOf K y0 a1) q2941 q105 q2938 q2940 (zq qs49) hd_X3_placeOf (by decide) (by decide) rfl (by simp [zcat_rf, zcat_i, zcat_j, zcat_f, zcat_d]) (fun z hz => by cases hz) dX3_drop_6 (fun r1 => ?_)
  show zS _ 9 _ [.int r1] _
  refine zs_istore_n hE (i := 2) (q := 2) rfl (by decide) (rfl) (lv' := [(0, va_rf (some this)), (1, .int a1)]) rfl dX3_drop_9 ?_
  refine zs_aload_n hE 1 rfl rfl dX3_drop_10 ?_
  refine zs_iload_n hE 2 rfl rfl dX3_drop_11 ?_
  refine zs_callV hE (As := [.int a1]) (encA := encI) (ci := 35) rfl (fun y0 => met_X3_isOut K y0 a1) q2973 q105 q2970 q2972 (zq qs56) hd_X3_isOut (by decide) (by decide) rfl (by simp [zcat_rf, zcat_i, zcat_j, zcat_f, zcat_d]) (fun z hz => by cases hz) dX3_drop_12 (fun r2 => ?_)
  show zS _ 15 _ [.int r2] _
  refine zs_if_ne hE 37 (by decide) dX3_drop_15 ?_ ?_
  · refine zs_aload_n hE 1 rfl rfl dX3_drop_18 ?_
    refine zs_iload_n hE 0 rfl rfl dX3_drop_19 ?_
    refine zs_iconst hE (v := (1 : Int32)) (by decide) dX3_drop_20 ?_
    refine zs_callV hE (As := [.int r1, .int (1 : Int32)]) (encA := encI) (ci := 35) rfl (fun y0 => met_X3_sv K y0 r1 (1 : Int32)) q2945 q105 q2942 q2944 (zq qs50) hd_X3_sv (by decide) (by decide) rfl (by simp [zcat_rf, zcat_i, zcat_j, zcat_f, zcat_d]) (fun z hz => by cases hz) dX3_drop_21 (fun r3 => ?_)
    show zS _ 24 _ [.int r3] _
    refine zs_if_ne hE 42 (by decide) dX3_drop_24 ?_ ?_
    · refine zs_aload_n hE 1 rfl rfl dX3_drop_27 ?_
      refine zs_bipush hE (v := (9 : Int32)) (by decide) dX3_drop_28 ?_
      refine zs_iload_n hE 2 rfl rfl dX3_drop_30 ?_
      refine zs_callV hE (As := [.int (9 : Int32), .int a1]) (encA := encI) (ci := 35) rfl (fun y0 => met_X3_isBad K y0 (9 : Int32) a1) q2937 q105 q2934 q2936 (zq qs48) hd_X3_isBad (by decide) (by decide) rfl (by simp [zcat_rf, zcat_i, zcat_j, zcat_f, zcat_d]) (fun z hz => by cases hz) dX3_drop_31 (fun r4 => ?_)
      show zS _ 34 _ [.int r4] _
      refine zs_if_eq hE 42 (by decide) dX3_drop_34 ?_ ?_
      · refine zs_sub [1, 0] rfl ?_
        exact sm_X3_drop_J42 hE this r1
      · refine zs_sub [1] rfl ?_
        exact sm_X3_drop_J37 hE this
    · refine zs_sub [1, 0] rfl ?_
      exact sm_X3_drop_J42 hE this r1
  · refine zs_sub [1] rfl ?_
    exact sm_X3_drop_J37 hE this
theorem hd_X3_drop : (yX3_drop).cls ≠ "java/lang/invoke/MethodHandle" ∧ (yX3_drop).cls ≠ "java/lang/invoke/VarHandle" ∧ (parseMethodDescriptor (yX3_drop).desc).map (fun d => d.parameters.length) = some 1 := by decide +kernel
theorem met_X3_drop (K : ZK) (this : Nat) (a1 : Int32) : zMeth K yX3_drop (zws yX3_drop cX3_drop 4 (Option.some Jvm.ClassFile.FieldType.int)) 4 165 [.ref this, .int a1] encI (s_X3_drop K this a1) :=
  fun l G hl hK => zmet_of hl hK (by decide +kernel) rfl rfl (by simp [zsl_nil, zsl_rf, zsl_r, zsl_i, zsl_j, zsl_f, zsl_d]) (fun x hE => by simp only [zla_nil, zla_rf, zla_r, zla_i, zla_j, zla_f, zla_d, Nat.reduceAdd]; exact sm_X3_drop hE this a1)
theorem sm_X3_isRefusedMonitor {x : ZX Int32} {K : ZK} (hE : zE x K cX3_isRefusedMonitor RX3 "isRefusedMonitor" 2 4 165 encI (Option.some Jvm.ClassFile.FieldType.boolean) []) (this : Nat) (a1 : Int32) : zS x 0 [(0, va_rf (some this)), (1, .int a1)] [] (s_X3_isRefusedMonitor K this a1) := by
  unfold s_X3_isRefusedMonitor
  refine zs_aload_n hE 0 rfl rfl dX3_isRefusedMonitor_0 ?_
  refine zs_iload_n hE 1 rfl rfl dX3_isRefusedMonitor_1 ?_
  refine zs_callV hE (As := [.int a1]) (encA := encI) (ci := 35) rfl (fun y0 => met_X3_isOut K y0 a1) q2973 q105 q2970 q2972 (zq qs56) hd_X3_isOut (by decide) (by decide) rfl (by simp [zcat_rf, zcat_i, zcat_j, zcat_f, zcat_d]) (fun z hz => by cases hz) dX3_isRefusedMonitor_2 (fun r1 => ?_)
  show zS _ 5 _ [.int r1] _
  refine zs_if_ne hE 28 (by decide) dX3_isRefusedMonitor_5 ?_ ?_
  · refine zs_aload_n hE 0 rfl rfl dX3_isRefusedMonitor_8 ?_
    refine zs_getR hE (ci := 35) (k := 0) rfl (by decide) in_X3 (Or.inl q2829) (Or.inl rfl) dX3_isRefusedMonitor_9 (fun v2 => ?_)
    refine zs_iconst hE (v := (2 : Int32)) (by decide) dX3_isRefusedMonitor_12 ?_
    refine zs_ald hE dX3_isRefusedMonitor_13 (fun v3 => ?_)
    refine zs_iload_n hE 1 rfl rfl dX3_isRefusedMonitor_14 ?_
    refine zs_icmp_ne hE 32 (by decide) dX3_isRefusedMonitor_15 ?_ ?_
    · refine zs_aload_n hE 0 rfl rfl dX3_isRefusedMonitor_18 ?_
      refine zs_bipush hE (v := (8 : Int32)) (by decide) dX3_isRefusedMonitor_19 ?_
      refine zs_iload_n hE 1 rfl rfl dX3_isRefusedMonitor_21 ?_
      refine zs_callV hE (As := [.int (8 : Int32), .int a1]) (encA := encI) (ci := 35) rfl (fun y0 => met_X3_isBad K y0 (8 : Int32) a1) q2937 q105 q2934 q2936 (zq qs48) hd_X3_isBad (by decide) (by decide) rfl (by simp [zcat_rf, zcat_i, zcat_j, zcat_f, zcat_d]) (fun z hz => by cases hz) dX3_isRefusedMonitor_22 (fun r4 => ?_)
      show zS _ 25 _ [.int r4] _
      refine zs_if_eq hE 32 (by decide) dX3_isRefusedMonitor_25 ?_ ?_
      · refine zs_iconst hE (v := (0 : Int32)) (by decide) dX3_isRefusedMonitor_32 ?_
        exact zs_zret hE rfl dX3_isRefusedMonitor_33
      · refine zs_iconst hE (v := (1 : Int32)) (by decide) dX3_isRefusedMonitor_28 ?_
        refine zs_goto hE 33 (by decide) dX3_isRefusedMonitor_29 ?_
        exact zs_zret hE rfl dX3_isRefusedMonitor_33
    · refine zs_iconst hE (v := (0 : Int32)) (by decide) dX3_isRefusedMonitor_32 ?_
      exact zs_zret hE rfl dX3_isRefusedMonitor_33
  · refine zs_iconst hE (v := (1 : Int32)) (by decide) dX3_isRefusedMonitor_28 ?_
    refine zs_goto hE 33 (by decide) dX3_isRefusedMonitor_29 ?_
    exact zs_zret hE rfl dX3_isRefusedMonitor_33
theorem hd_X3_isRefusedMonitor : (yX3_isRefusedMonitor).cls ≠ "java/lang/invoke/MethodHandle" ∧ (yX3_isRefusedMonitor).cls ≠ "java/lang/invoke/VarHandle" ∧ (parseMethodDescriptor (yX3_isRefusedMonitor).desc).map (fun d => d.parameters.length) = some 1 := by decide +kernel
theorem met_X3_isRefusedMonitor (K : ZK) (this : Nat) (a1 : Int32) : zMeth K yX3_isRefusedMonitor (zws yX3_isRefusedMonitor cX3_isRefusedMonitor 2 (Option.some Jvm.ClassFile.FieldType.boolean)) 4 165 [.ref this, .int a1] encI (s_X3_isRefusedMonitor K this a1) :=
  fun l G hl hK => zmet_of hl hK (by decide +kernel) rfl rfl (by simp [zsl_nil, zsl_rf, zsl_r, zsl_i, zsl_j, zsl_f, zsl_d]) (fun x hE => by simp only [zla_nil, zla_rf, zla_r, zla_i, zla_j, zla_f, zla_d, Nat.reduceAdd]; exact sm_X3_isRefusedMonitor hE this a1)
theorem sm_X3_monitors {x : ZX Int32} {K : ZK} (hE : zE x K cX3_monitors RX3 "monitors" 3 1 100 encI (Option.some Jvm.ClassFile.FieldType.int) []) (this : Nat) (a1 : Int32) : zS x 0 [(0, va_rf (some this)), (1, .int a1)] [] (s_X3_monitors K this a1) := by
  unfold s_X3_monitors
  refine zs_aload_n hE 0 rfl rfl dX3_monitors_0 ?_
  refine zs_getR hE (ci := 35) (k := 0) rfl (by decide) in_X3 (Or.inl q2829) (Or.inl rfl) dX3_monitors_1 (fun v1 => ?_)
  refine zs_iconst hE (v := (2 : Int32)) (by decide) dX3_monitors_4 ?_
  refine zs_ald hE dX3_monitors_5 (fun v2 => ?_)
  refine zs_istore_n hE (i := 2) (q := 2) rfl (by decide) (rfl) (lv' := [(0, va_rf (some this)), (1, .int a1)]) rfl dX3_monitors_6 ?_
  refine zs_aload_n hE 1 rfl rfl dX3_monitors_7 ?_
  refine zs_getR hE (ci := 35) (k := 0) rfl (by decide) in_X3 (Or.inl q2829) (Or.inl rfl) dX3_monitors_8 (fun v3 => ?_)
  refine zs_iconst hE (v := (2 : Int32)) (by decide) dX3_monitors_11 ?_
  refine zs_iload_n hE 2 rfl rfl dX3_monitors_12 ?_
  refine zs_ast hE dX3_monitors_13 ?_
  refine zs_iload_n hE 0 rfl rfl dX3_monitors_14 ?_
  exact zs_iret hE dX3_monitors_15
theorem hd_X3_monitors : (yX3_monitors).cls ≠ "java/lang/invoke/MethodHandle" ∧ (yX3_monitors).cls ≠ "java/lang/invoke/VarHandle" ∧ (parseMethodDescriptor (yX3_monitors).desc).map (fun d => d.parameters.length) = some 1 := by decide +kernel
theorem met_X3_monitors (K : ZK) (this : Nat) (a1 : Int32) : zMeth K yX3_monitors (zws yX3_monitors cX3_monitors 3 (Option.some Jvm.ClassFile.FieldType.int)) 1 100 [.ref this, .int a1] encI (s_X3_monitors K this a1) :=
  fun l G hl hK => zmet_of hl hK (by decide +kernel) rfl rfl (by simp [zsl_nil, zsl_rf, zsl_r, zsl_i, zsl_j, zsl_f, zsl_d]) (fun x hE => by simp only [zla_nil, zla_rf, zla_r, zla_i, zla_j, zla_f, zla_d, Nat.reduceAdd]; exact sm_X3_monitors hE this a1)
theorem sm_X3_monitor {x : ZX Int32} {K : ZK} (hE : zE x K cX3_monitor RX3 "monitor" 2 5 186 encI (Option.some Jvm.ClassFile.FieldType.int) []) (this : Nat) (a1 : Int32) : zS x 0 [(0, va_rf (some this)), (1, .int a1)] [] (s_X3_monitor K this a1) := by
  unfold s_X3_monitor
  refine zs_aload_n hE 0 rfl rfl dX3_monitor_0 ?_
  refine zs_callV hE (As := []) (encA := encV) (ci := 35) rfl (fun y0 => met_X3_begins K y0) q2920 q105 q2917 q2919 (zq qs46) hd_X3_begins (by decide) (by decide) rfl (by simp [zcat_rf, zcat_i, zcat_j, zcat_f, zcat_d]) (fun z hz => by cases hz) dX3_monitor_1 (fun _ => ?_)
  show zS _ 4 _ [] _
  refine zs_aload_n hE 0 rfl rfl dX3_monitor_4 ?_
  refine zs_iload_n hE 1 rfl rfl dX3_monitor_5 ?_
  refine zs_callV hE (As := [.int a1]) (encA := encI) (ci := 35) rfl (fun y0 => met_X3_isRefusedMonitor K y0 a1) q3013 q105 q3010 q3012 (zq qs63) hd_X3_isRefusedMonitor (by decide) (by decide) rfl (by simp [zcat_rf, zcat_i, zcat_j, zcat_f, zcat_d]) (fun z hz => by cases hz) dX3_monitor_6 (fun r1 => ?_)
  show zS _ 9 _ [.int r1] _
  refine zs_if_eq hE 19 (by decide) dX3_monitor_9 ?_ ?_
  · refine zs_aload_n hE 0 rfl rfl dX3_monitor_19 ?_
    refine zs_aload_n hE 0 rfl rfl dX3_monitor_20 ?_
    refine zs_iload_n hE 1 rfl rfl dX3_monitor_21 ?_
    refine zs_callV hE (As := [.int a1]) (encA := encI) (ci := 35) rfl (fun y0 => met_X3_monitors K y0 a1) q3017 q105 q3014 q3016 (zq qs64) hd_X3_monitors (by decide) (by decide) rfl (by simp [zcat_rf, zcat_i, zcat_j, zcat_f, zcat_d]) (fun z hz => by cases hz) dX3_monitor_22 (fun r2 => ?_)
    show zS _ 25 _ [.int r2, va_rf (some this)] _
    refine zs_callV hE (As := [.int r2]) (encA := encI) (ci := 35) rfl (fun y0 => met_X3_keeps K y0 r2) q2965 q105 q2962 q2964 (zq qs55) hd_X3_keeps (by decide) (by decide) rfl (by simp [zcat_rf, zcat_i, zcat_j, zcat_f, zcat_d]) (fun z hz => by cases hz) dX3_monitor_25 (fun r3 => ?_)
    show zS _ 28 _ [.int r3] _
    exact zs_iret hE dX3_monitor_28
  · refine zs_aload_n hE 0 rfl rfl dX3_monitor_12 ?_
    refine zs_callV hE (As := []) (encA := encI) (ci := 35) rfl (fun y0 => met_X3_refused K y0) q2949 q105 q2946 q2948 (zq qs51) hd_X3_refused (by decide) (by decide) rfl (by simp [zcat_rf, zcat_i, zcat_j, zcat_f, zcat_d]) (fun z hz => by cases hz) dX3_monitor_13 (fun r4 => ?_)
    show zS _ 16 _ [.int r4] _
    refine zs_goto hE 28 (by decide) dX3_monitor_16 ?_
    exact zs_iret hE dX3_monitor_28
theorem hd_X3_monitor : (yX3_monitor).cls ≠ "java/lang/invoke/MethodHandle" ∧ (yX3_monitor).cls ≠ "java/lang/invoke/VarHandle" ∧ (parseMethodDescriptor (yX3_monitor).desc).map (fun d => d.parameters.length) = some 1 := by decide +kernel
theorem met_X3_monitor (K : ZK) (this : Nat) (a1 : Int32) : zMeth K yX3_monitor (zws yX3_monitor cX3_monitor 2 (Option.some Jvm.ClassFile.FieldType.int)) 5 186 [.ref this, .int a1] encI (s_X3_monitor K this a1) :=
  fun l G hl hK => zmet_of hl hK (by decide +kernel) rfl rfl (by simp [zsl_nil, zsl_rf, zsl_r, zsl_i, zsl_j, zsl_f, zsl_d]) (fun x hE => by simp only [zla_nil, zla_rf, zla_r, zla_i, zla_j, zla_f, zla_d, Nat.reduceAdd]; exact sm_X3_monitor hE this a1)
theorem sm_X3_comesToken {x : ZX Unit} {K : ZK} (hE : zE x K cX3_comesToken RX3 "comesToken" 3 1 100 encV none []) (this : Nat) (a1 : Int32) (a2 : Int32) : zS x 0 [(0, va_rf (some this)), (1, .int a1), (2, .int a2)] [] (s_X3_comesToken K this a1 a2) := by
  unfold s_X3_comesToken
  refine zs_aload_n hE 0 rfl rfl dX3_comesToken_0 ?_
  refine zs_getR hE (ci := 35) (k := 0) rfl (by decide) in_X3 (Or.inl q2829) (Or.inl rfl) dX3_comesToken_1 (fun v1 => ?_)
  refine zs_bipush hE (v := (18 : Int32)) (by decide) dX3_comesToken_4 ?_
  refine zs_iconst hE (v := (1 : Int32)) (by decide) dX3_comesToken_6 ?_
  refine zs_ast hE dX3_comesToken_7 ?_
  refine zs_aload_n hE 0 rfl rfl dX3_comesToken_8 ?_
  refine zs_getR hE (ci := 35) (k := 0) rfl (by decide) in_X3 (Or.inl q2829) (Or.inl rfl) dX3_comesToken_9 (fun v2 => ?_)
  refine zs_bipush hE (v := (19 : Int32)) (by decide) dX3_comesToken_12 ?_
  refine zs_iload_n hE 1 rfl rfl dX3_comesToken_14 ?_
  refine zs_ast hE dX3_comesToken_15 ?_
  refine zs_aload_n hE 0 rfl rfl dX3_comesToken_16 ?_
  refine zs_getR hE (ci := 35) (k := 0) rfl (by decide) in_X3 (Or.inl q2829) (Or.inl rfl) dX3_comesToken_17 (fun v3 => ?_)
  refine zs_bipush hE (v := (20 : Int32)) (by decide) dX3_comesToken_20 ?_
  refine zs_iload_n hE 2 rfl rfl dX3_comesToken_22 ?_
  refine zs_ast hE dX3_comesToken_23 ?_
  refine zs_aload_n hE 0 rfl rfl dX3_comesToken_24 ?_
  refine zs_getR hE (ci := 35) (k := 0) rfl (by decide) in_X3 (Or.inl q2829) (Or.inl rfl) dX3_comesToken_25 (fun v4 => ?_)
  refine zs_bipush hE (v := (21 : Int32)) (by decide) dX3_comesToken_28 ?_
  refine zs_iconst hE (v := (0 : Int32)) (by decide) dX3_comesToken_30 ?_
  refine zs_ast hE dX3_comesToken_31 ?_
  exact zs_vret hE dX3_comesToken_32
theorem hd_X3_comesToken : (yX3_comesToken).cls ≠ "java/lang/invoke/MethodHandle" ∧ (yX3_comesToken).cls ≠ "java/lang/invoke/VarHandle" ∧ (parseMethodDescriptor (yX3_comesToken).desc).map (fun d => d.parameters.length) = some 2 := by decide +kernel
theorem met_X3_comesToken (K : ZK) (this : Nat) (a1 : Int32) (a2 : Int32) : zMeth K yX3_comesToken (zws yX3_comesToken cX3_comesToken 3 none) 1 100 [.ref this, .int a1, .int a2] encV (s_X3_comesToken K this a1 a2) :=
  fun l G hl hK => zmet_of hl hK (by decide +kernel) rfl rfl (by simp [zsl_nil, zsl_rf, zsl_r, zsl_i, zsl_j, zsl_f, zsl_d]) (fun x hE => by simp only [zla_nil, zla_rf, zla_r, zla_i, zla_j, zla_f, zla_d, Nat.reduceAdd]; exact sm_X3_comesToken hE this a1 a2)
theorem sm_X3_allWaiting_B4 {x : ZX Int32} {K : ZK} (hE : zE x K cX3_allWaiting RX3 "allWaiting" 3 2 122 encI (Option.some Jvm.ClassFile.FieldType.int) []) (x0 : Nat) (self4 : (Int32 × Int32) → ZP Int32) (hs4 : ∀ v : Int32 × Int32, zS x 4 [(0, va_rf (some x0)), (1, .int v.1), (2, .int v.2)] [] (self4 v)) (x1 : Int32) (x2 : Int32) : zS x 4 [(0, va_rf (some x0)), (1, .int x1), (2, .int x2)] [] (s_X3_allWaiting_B4 K x0 self4 x1 x2) := by
  unfold s_X3_allWaiting_B4
  refine zs_iload_n hE 2 rfl rfl dX3_allWaiting_4 ?_
  refine zs_aload_n hE 0 rfl rfl dX3_allWaiting_5 ?_
  refine zs_getR hE (ci := 35) (k := 0) rfl (by decide) in_X3 (Or.inl q2829) (Or.inl rfl) dX3_allWaiting_6 (fun v1 => ?_)
  refine zs_iconst hE (v := (1 : Int32)) (by decide) dX3_allWaiting_9 ?_
  refine zs_ald hE dX3_allWaiting_10 (fun v2 => ?_)
  refine zs_icmp_ge hE 29 (by decide) dX3_allWaiting_11 ?_ ?_
  · refine zs_iload_n hE 1 rfl rfl dX3_allWaiting_29 ?_
    exact zs_iret hE dX3_allWaiting_30
  · refine zs_iload_n hE 1 rfl rfl dX3_allWaiting_14 ?_
    refine zs_aload_n hE 0 rfl rfl dX3_allWaiting_15 ?_
    refine zs_iload_n hE 2 rfl rfl dX3_allWaiting_16 ?_
    refine zs_iconst hE (v := (1 : Int32)) (by decide) dX3_allWaiting_17 ?_
    refine zs_callV hE (As := [.int x2, .int (1 : Int32)]) (encA := encI) (ci := 35) rfl (fun y0 => met_X3_sv K y0 x2 (1 : Int32)) q2945 q105 q2942 q2944 (zq qs50) hd_X3_sv (by decide) (by decide) rfl (by simp [zcat_rf, zcat_i, zcat_j, zcat_f, zcat_d]) (fun z hz => by cases hz) dX3_allWaiting_18 (fun r3 => ?_)
    show zS _ 21 _ [.int r3, .int x1] _
    refine zs_iadd hE dX3_allWaiting_21 ?_
    refine zs_istore_n hE (i := 1) (q := 1) rfl (by decide) (zcat_rf (some x0)) (lv' := [(0, va_rf (some x0)), (2, .int x2)]) rfl dX3_allWaiting_22 ?_
    refine zs_iinc hE 2 (v := (1 : Int32)) rfl (by decide) (by decide) (rfl) (lv' := [(1, .int (x1 + r3)), (0, va_rf (some x0))]) rfl dX3_allWaiting_23 ?_
    refine zs_goto hE 4 (by decide) dX3_allWaiting_26 ?_
    refine zs_sub [2, 1, 0] rfl ?_
    exact hs4 (x1 + r3, x2 + (1 : Int32))
theorem sm_X3_allWaiting_L4 {x : ZX Int32} {K : ZK} (hE : zE x K cX3_allWaiting RX3 "allWaiting" 3 2 122 encI (Option.some Jvm.ClassFile.FieldType.int) []) (x0 : Nat) (v : Int32 × Int32) : zS x 4 [(0, va_rf (some x0)), (1, .int v.1), (2, .int v.2)] [] (s_X3_allWaiting_L4 K x0 v) := by
  unfold s_X3_allWaiting_L4
  exact zs_loop (lvf := fun v => [(0, va_rf (some x0)), (1, .int v.1), (2, .int v.2)]) (fun self4 hs4 v => sm_X3_allWaiting_B4 hE x0 self4 hs4 v.1 v.2) v
theorem sm_X3_allWaiting {x : ZX Int32} {K : ZK} (hE : zE x K cX3_allWaiting RX3 "allWaiting" 3 2 122 encI (Option.some Jvm.ClassFile.FieldType.int) []) (this : Nat) : zS x 0 [(0, va_rf (some this))] [] (s_X3_allWaiting K this) := by
  unfold s_X3_allWaiting
  refine zs_iconst hE (v := (0 : Int32)) (by decide) dX3_allWaiting_0 ?_
  refine zs_istore_n hE (i := 1) (q := 1) rfl (by decide) (zcat_rf (some this)) (lv' := [(0, va_rf (some this))]) rfl dX3_allWaiting_1 ?_
  refine zs_iconst hE (v := (0 : Int32)) (by decide) dX3_allWaiting_2 ?_
  refine zs_istore_n hE (i := 2) (q := 2) rfl (by decide) (rfl) (lv' := [(1, .int (0 : Int32)), (0, va_rf (some this))]) rfl dX3_allWaiting_3 ?_
  refine zs_sub [2, 1, 0] rfl ?_
  exact sm_X3_allWaiting_L4 hE this ((0 : Int32), (0 : Int32))
theorem hd_X3_allWaiting : (yX3_allWaiting).cls ≠ "java/lang/invoke/MethodHandle" ∧ (yX3_allWaiting).cls ≠ "java/lang/invoke/VarHandle" ∧ (parseMethodDescriptor (yX3_allWaiting).desc).map (fun d => d.parameters.length) = some 0 := by decide +kernel
theorem met_X3_allWaiting (K : ZK) (this : Nat) : zMeth K yX3_allWaiting (zws yX3_allWaiting cX3_allWaiting 3 (Option.some Jvm.ClassFile.FieldType.int)) 2 122 [.ref this] encI (s_X3_allWaiting K this) :=
  fun l G hl hK => zmet_of hl hK (by decide +kernel) rfl rfl (by simp [zsl_nil, zsl_rf, zsl_r, zsl_i, zsl_j, zsl_f, zsl_d]) (fun x hE => by simp only [zla_nil, zla_rf, zla_r, zla_i, zla_j, zla_f, zla_d, Nat.reduceAdd]; exact sm_X3_allWaiting hE this)
theorem sm_X3_token_J43 {x : ZX Int32} {K : ZK} (hE : zE x K cX3_token RX3 "token" 2 4 165 encI (Option.some Jvm.ClassFile.FieldType.int) []) (x0 : Nat) (x1 : Int32) : zS x 43 [(0, va_rf (some x0)), (1, .int x1)] [] (s_X3_token_J43 K x0 x1) := by
  unfold s_X3_token_J43
  refine zs_aload_n hE 0 rfl rfl dX3_token_43 ?_
  refine zs_iload_n hE 1 rfl rfl dX3_token_44 ?_
  refine zs_iconst hE (v := (0 : Int32)) (by decide) dX3_token_45 ?_
  refine zs_callV hE (As := [.int x1, .int (0 : Int32)]) (encA := encV) (ci := 35) rfl (fun y0 => met_X3_comesToken K y0 x1 (0 : Int32)) q3025 q105 q3022 q3024 (zq qs65) hd_X3_comesToken (by decide) (by decide) rfl (by simp [zcat_rf, zcat_i, zcat_j, zcat_f, zcat_d]) (fun z hz => by cases hz) dX3_token_46 (fun _ => ?_)
  show zS _ 49 _ [] _
  refine zs_aload_n hE 0 rfl rfl dX3_token_49 ?_
  refine zs_getR hE (ci := 35) (k := 0) rfl (by decide) in_X3 (Or.inl q2829) (Or.inl rfl) dX3_token_50 (fun v4 => ?_)
  refine zs_iconst hE (v := (3 : Int32)) (by decide) dX3_token_53 ?_
  refine zs_iconst hE (v := (0 : Int32)) (by decide) dX3_token_54 ?_
  refine zs_ast hE dX3_token_55 ?_
  refine zs_aload_n hE 0 rfl rfl dX3_token_56 ?_
  refine zs_aload_n hE 0 rfl rfl dX3_token_57 ?_
  refine zs_callV hE (As := []) (encA := encI) (ci := 35) rfl (fun y0 => met_X3_allWaiting K y0) q3029 q105 q3026 q3028 (zq qs66) hd_X3_allWaiting (by decide) (by decide) rfl (by simp [zcat_rf, zcat_i, zcat_j, zcat_f, zcat_d]) (fun z hz => by cases hz) dX3_token_58 (fun r5 => ?_)
  show zS _ 61 _ [.int r5, va_rf (some x0)] _
  refine zs_callV hE (As := [.int r5]) (encA := encI) (ci := 35) rfl (fun y0 => met_X3_keeps K y0 r5) q2965 q105 q2962 q2964 (zq qs55) hd_X3_keeps (by decide) (by decide) rfl (by simp [zcat_rf, zcat_i, zcat_j, zcat_f, zcat_d]) (fun z hz => by cases hz) dX3_token_61 (fun r6 => ?_)
  show zS _ 64 _ [.int r6] _
  exact zs_iret hE dX3_token_64
theorem sm_X3_token_J38 {x : ZX Int32} {K : ZK} (hE : zE x K cX3_token RX3 "token" 2 4 165 encI (Option.some Jvm.ClassFile.FieldType.int) []) (x0 : Nat) : zS x 38 [(0, va_rf (some x0))] [] (s_X3_token_J38 K x0) := by
  unfold s_X3_token_J38
  refine zs_aload_n hE 0 rfl rfl dX3_token_38 ?_
  refine zs_callV hE (As := []) (encA := encI) (ci := 35) rfl (fun y0 => met_X3_refused K y0) q2949 q105 q2946 q2948 (zq qs51) hd_X3_refused (by decide) (by decide) rfl (by simp [zcat_rf, zcat_i, zcat_j, zcat_f, zcat_d]) (fun z hz => by cases hz) dX3_token_39 (fun r10 => ?_)
  show zS _ 42 _ [.int r10] _
  exact zs_iret hE dX3_token_42
theorem sm_X3_token {x : ZX Int32} {K : ZK} (hE : zE x K cX3_token RX3 "token" 2 4 165 encI (Option.some Jvm.ClassFile.FieldType.int) []) (this : Nat) (a1 : Int32) : zS x 0 [(0, va_rf (some this)), (1, .int a1)] [] (s_X3_token K this a1) := by
  unfold s_X3_token
  refine zs_aload_n hE 0 rfl rfl dX3_token_0 ?_
  refine zs_callV hE (As := []) (encA := encV) (ci := 35) rfl (fun y0 => met_X3_begins K y0) q2920 q105 q2917 q2919 (zq qs46) hd_X3_begins (by decide) (by decide) rfl (by simp [zcat_rf, zcat_i, zcat_j, zcat_f, zcat_d]) (fun z hz => by cases hz) dX3_token_1 (fun _ => ?_)
  show zS _ 4 _ [] _
  refine zs_aload_n hE 0 rfl rfl dX3_token_4 ?_
  refine zs_iload_n hE 1 rfl rfl dX3_token_5 ?_
  refine zs_callV hE (As := [.int a1]) (encA := encI) (ci := 35) rfl (fun y0 => met_X3_isOut K y0 a1) q2973 q105 q2970 q2972 (zq qs56) hd_X3_isOut (by decide) (by decide) rfl (by simp [zcat_rf, zcat_i, zcat_j, zcat_f, zcat_d]) (fun z hz => by cases hz) dX3_token_6 (fun r1 => ?_)
  show zS _ 9 _ [.int r1] _
  refine zs_if_ne hE 38 (by decide) dX3_token_9 ?_ ?_
  · refine zs_aload_n hE 0 rfl rfl dX3_token_12 ?_
    refine zs_getR hE (ci := 35) (k := 0) rfl (by decide) in_X3 (Or.inl q2829) (Or.inl rfl) dX3_token_13 (fun v2 => ?_)
    refine zs_bipush hE (v := (18 : Int32)) (by decide) dX3_token_16 ?_
    refine zs_ald hE dX3_token_18 (fun v3 => ?_)
    refine zs_if_le hE 43 (by decide) dX3_token_19 ?_ ?_
    · exact sm_X3_token_J43 hE this a1
    · refine zs_aload_n hE 0 rfl rfl dX3_token_22 ?_
      refine zs_bipush hE (v := (6 : Int32)) (by decide) dX3_token_23 ?_
      refine zs_aload_n hE 0 rfl rfl dX3_token_25 ?_
      refine zs_getR hE (ci := 35) (k := 0) rfl (by decide) in_X3 (Or.inl q2829) (Or.inl rfl) dX3_token_26 (fun v7 => ?_)
      refine zs_bipush hE (v := (18 : Int32)) (by decide) dX3_token_29 ?_
      refine zs_ald hE dX3_token_31 (fun v8 => ?_)
      refine zs_callV hE (As := [.int (6 : Int32), .int v8]) (encA := encI) (ci := 35) rfl (fun y0 => met_X3_isBad K y0 (6 : Int32) v8) q2937 q105 q2934 q2936 (zq qs48) hd_X3_isBad (by decide) (by decide) rfl (by simp [zcat_rf, zcat_i, zcat_j, zcat_f, zcat_d]) (fun z hz => by cases hz) dX3_token_32 (fun r9 => ?_)
      show zS _ 35 _ [.int r9] _
      refine zs_if_eq hE 43 (by decide) dX3_token_35 ?_ ?_
      · exact sm_X3_token_J43 hE this a1
      · refine zs_sub [0] rfl ?_
        exact sm_X3_token_J38 hE this
  · refine zs_sub [0] rfl ?_
    exact sm_X3_token_J38 hE this
theorem hd_X3_token : (yX3_token).cls ≠ "java/lang/invoke/MethodHandle" ∧ (yX3_token).cls ≠ "java/lang/invoke/VarHandle" ∧ (parseMethodDescriptor (yX3_token).desc).map (fun d => d.parameters.length) = some 1 := by decide +kernel
theorem met_X3_token (K : ZK) (this : Nat) (a1 : Int32) : zMeth K yX3_token (zws yX3_token cX3_token 2 (Option.some Jvm.ClassFile.FieldType.int)) 4 165 [.ref this, .int a1] encI (s_X3_token K this a1) :=
  fun l G hl hK => zmet_of hl hK (by decide +kernel) rfl rfl (by simp [zsl_nil, zsl_rf, zsl_r, zsl_i, zsl_j, zsl_f, zsl_d]) (fun x hE => by simp only [zla_nil, zla_rf, zla_r, zla_i, zla_j, zla_f, zla_d, Nat.reduceAdd]; exact sm_X3_token hE this a1)
theorem sm_X3_isSilent {x : ZX Int32} {K : ZK} (hE : zE x K cX3_isSilent RX3 "isSilent" 1 2 122 encI (Option.some Jvm.ClassFile.FieldType.boolean) []) (this : Nat) : zS x 0 [(0, va_rf (some this))] [] (s_X3_isSilent K this) := by
  unfold s_X3_isSilent
  refine zs_aload_n hE 0 rfl rfl dX3_isSilent_0 ?_
  refine zs_getR hE (ci := 35) (k := 0) rfl (by decide) in_X3 (Or.inl q2829) (Or.inl rfl) dX3_isSilent_1 (fun v1 => ?_)
  refine zs_bipush hE (v := (18 : Int32)) (by decide) dX3_isSilent_4 ?_
  refine zs_ald hE dX3_isSilent_6 (fun v2 => ?_)
  refine zs_if_ne hE 24 (by decide) dX3_isSilent_7 ?_ ?_
  · refine zs_aload_n hE 0 rfl rfl dX3_isSilent_10 ?_
    refine zs_bipush hE (v := (7 : Int32)) (by decide) dX3_isSilent_11 ?_
    refine zs_iconst hE (v := (0 : Int32)) (by decide) dX3_isSilent_13 ?_
    refine zs_callV hE (As := [.int (7 : Int32), .int (0 : Int32)]) (encA := encI) (ci := 35) rfl (fun y0 => met_X3_isBad K y0 (7 : Int32) (0 : Int32)) q2937 q105 q2934 q2936 (zq qs48) hd_X3_isBad (by decide) (by decide) rfl (by simp [zcat_rf, zcat_i, zcat_j, zcat_f, zcat_d]) (fun z hz => by cases hz) dX3_isSilent_14 (fun r3 => ?_)
    show zS _ 17 _ [.int r3] _
    refine zs_if_eq hE 24 (by decide) dX3_isSilent_17 ?_ ?_
    · refine zs_iconst hE (v := (0 : Int32)) (by decide) dX3_isSilent_24 ?_
      exact zs_zret hE rfl dX3_isSilent_25
    · refine zs_iconst hE (v := (1 : Int32)) (by decide) dX3_isSilent_20 ?_
      refine zs_goto hE 25 (by decide) dX3_isSilent_21 ?_
      exact zs_zret hE rfl dX3_isSilent_25
  · refine zs_iconst hE (v := (0 : Int32)) (by decide) dX3_isSilent_24 ?_
    exact zs_zret hE rfl dX3_isSilent_25
theorem hd_X3_isSilent : (yX3_isSilent).cls ≠ "java/lang/invoke/MethodHandle" ∧ (yX3_isSilent).cls ≠ "java/lang/invoke/VarHandle" ∧ (parseMethodDescriptor (yX3_isSilent).desc).map (fun d => d.parameters.length) = some 0 := by decide +kernel
theorem met_X3_isSilent (K : ZK) (this : Nat) : zMeth K yX3_isSilent (zws yX3_isSilent cX3_isSilent 1 (Option.some Jvm.ClassFile.FieldType.boolean)) 2 122 [.ref this] encI (s_X3_isSilent K this) :=
  fun l G hl hK => zmet_of hl hK (by decide +kernel) rfl rfl (by simp [zsl_nil, zsl_rf, zsl_r, zsl_i, zsl_j, zsl_f, zsl_d]) (fun x hE => by simp only [zla_nil, zla_rf, zla_r, zla_i, zla_j, zla_f, zla_d, Nat.reduceAdd]; exact sm_X3_isSilent hE this)
theorem sm_X3_lose {x : ZX Int32} {K : ZK} (hE : zE x K cX3_lose RX3 "lose" 1 3 146 encI (Option.some Jvm.ClassFile.FieldType.int) []) (this : Nat) : zS x 0 [(0, va_rf (some this))] [] (s_X3_lose K this) := by
  unfold s_X3_lose
  refine zs_aload_n hE 0 rfl rfl dX3_lose_0 ?_
  refine zs_callV hE (As := []) (encA := encV) (ci := 35) rfl (fun y0 => met_X3_begins K y0) q2920 q105 q2917 q2919 (zq qs46) hd_X3_begins (by decide) (by decide) rfl (by simp [zcat_rf, zcat_i, zcat_j, zcat_f, zcat_d]) (fun z hz => by cases hz) dX3_lose_1 (fun _ => ?_)
  show zS _ 4 _ [] _
  refine zs_aload_n hE 0 rfl rfl dX3_lose_4 ?_
  refine zs_callV hE (As := []) (encA := encI) (ci := 35) rfl (fun y0 => met_X3_isSilent K y0) q3037 q105 q3034 q3036 (zq qs67) hd_X3_isSilent (by decide) (by decide) rfl (by simp [zcat_rf, zcat_i, zcat_j, zcat_f, zcat_d]) (fun z hz => by cases hz) dX3_lose_5 (fun r1 => ?_)
  show zS _ 8 _ [.int r1] _
  refine zs_if_eq hE 18 (by decide) dX3_lose_8 ?_ ?_
  · refine zs_aload_n hE 0 rfl rfl dX3_lose_18 ?_
    refine zs_aload_n hE 0 rfl rfl dX3_lose_19 ?_
    refine zs_callV hE (As := []) (encA := encI) (ci := 35) rfl (fun y0 => met_X3_losesIt K y0) q2981 q105 q2978 q2980 (zq qs58) hd_X3_losesIt (by decide) (by decide) rfl (by simp [zcat_rf, zcat_i, zcat_j, zcat_f, zcat_d]) (fun z hz => by cases hz) dX3_lose_20 (fun r2 => ?_)
    show zS _ 23 _ [.int r2, va_rf (some this)] _
    refine zs_callV hE (As := [.int r2]) (encA := encI) (ci := 35) rfl (fun y0 => met_X3_keeps K y0 r2) q2965 q105 q2962 q2964 (zq qs55) hd_X3_keeps (by decide) (by decide) rfl (by simp [zcat_rf, zcat_i, zcat_j, zcat_f, zcat_d]) (fun z hz => by cases hz) dX3_lose_23 (fun r3 => ?_)
    show zS _ 26 _ [.int r3] _
    exact zs_iret hE dX3_lose_26
  · refine zs_aload_n hE 0 rfl rfl dX3_lose_11 ?_
    refine zs_callV hE (As := []) (encA := encI) (ci := 35) rfl (fun y0 => met_X3_refused K y0) q2949 q105 q2946 q2948 (zq qs51) hd_X3_refused (by decide) (by decide) rfl (by simp [zcat_rf, zcat_i, zcat_j, zcat_f, zcat_d]) (fun z hz => by cases hz) dX3_lose_12 (fun r4 => ?_)
    show zS _ 15 _ [.int r4] _
    refine zs_goto hE 26 (by decide) dX3_lose_15 ?_
    exact zs_iret hE dX3_lose_26
theorem hd_X3_lose : (yX3_lose).cls ≠ "java/lang/invoke/MethodHandle" ∧ (yX3_lose).cls ≠ "java/lang/invoke/VarHandle" ∧ (parseMethodDescriptor (yX3_lose).desc).map (fun d => d.parameters.length) = some 0 := by decide +kernel
theorem met_X3_lose (K : ZK) (this : Nat) : zMeth K yX3_lose (zws yX3_lose cX3_lose 1 (Option.some Jvm.ClassFile.FieldType.int)) 3 146 [.ref this] encI (s_X3_lose K this) :=
  fun l G hl hK => zmet_of hl hK (by decide +kernel) rfl rfl (by simp [zsl_nil, zsl_rf, zsl_r, zsl_i, zsl_j, zsl_f, zsl_d]) (fun x hE => by simp only [zla_nil, zla_rf, zla_r, zla_i, zla_j, zla_f, zla_d, Nat.reduceAdd]; exact sm_X3_lose hE this)
theorem sm_X3_areTicks {x : ZX Int32} {K : ZK} (hE : zE x K cX3_areTicks RX3 "areTicks" 1 2 122 encI (Option.some Jvm.ClassFile.FieldType.boolean) []) (a1 : Int32) : zS x 0 [(0, .int a1)] [] (s_X3_areTicks K a1) := by
  unfold s_X3_areTicks
  refine zs_iload_n hE 0 rfl rfl dX3_areTicks_0 ?_
  refine zs_iconst hE (v := (1 : Int32)) (by decide) dX3_areTicks_1 ?_
  refine zs_bipush hE (v := (40 : Int32)) (by decide) dX3_areTicks_2 ?_
  refine zs_callS hE (As := [.int a1, .int (1 : Int32), .int (40 : Int32)]) (encA := encI) (met_X3_in K a1 (1 : Int32) (40 : Int32)) q2933 q105 q2931 q2932 hd_X3_in (by decide) (by decide) rfl (by simp [zcat_rf, zcat_i, zcat_j, zcat_f, zcat_d]) (fun z hz => by cases hz) dX3_areTicks_4 (fun r1 => ?_)
  show zS _ 7 _ [.int r1] _
  exact zs_zretA hE dX3_areTicks_7
theorem hd_X3_areTicks : (yX3_areTicks).cls ≠ "java/lang/invoke/MethodHandle" ∧ (yX3_areTicks).cls ≠ "java/lang/invoke/VarHandle" ∧ (parseMethodDescriptor (yX3_areTicks).desc).map (fun d => d.parameters.length) = some 1 := by decide +kernel
theorem met_X3_areTicks (K : ZK) (a1 : Int32) : zMeth K yX3_areTicks (zws yX3_areTicks cX3_areTicks 1 (Option.some Jvm.ClassFile.FieldType.boolean)) 2 122 [.int a1] encI (s_X3_areTicks K a1) :=
  fun l G hl hK => zmet_of hl hK (by decide +kernel) rfl rfl (by simp [zsl_nil, zsl_rf, zsl_r, zsl_i, zsl_j, zsl_f, zsl_d]) (fun x hE => by simp only [zla_nil, zla_rf, zla_r, zla_i, zla_j, zla_f, zla_d, Nat.reduceAdd]; exact sm_X3_areTicks hE a1)
theorem sm_X3_isRefusedTicks {x : ZX Int32} {K : ZK} (hE : zE x K cX3_isRefusedTicks RX3 "isRefusedTicks" 2 3 142 encI (Option.some Jvm.ClassFile.FieldType.boolean) []) (this : Nat) (a1 : Int32) : zS x 0 [(0, va_rf (some this)), (1, .int a1)] [] (s_X3_isRefusedTicks K this a1) := by
  unfold s_X3_isRefusedTicks
  refine zs_iload_n hE 1 rfl rfl dX3_isRefusedTicks_0 ?_
  refine zs_callS hE (As := [.int a1]) (encA := encI) (met_X3_areTicks K a1) q3048 q105 q3046 q3047 hd_X3_areTicks (by decide) (by decide) rfl (by simp [zcat_rf, zcat_i, zcat_j, zcat_f, zcat_d]) (fun z hz => by cases hz) dX3_isRefusedTicks_1 (fun r1 => ?_)
  show zS _ 4 _ [.int r1] _
  refine zs_if_ne hE 20 (by decide) dX3_isRefusedTicks_4 ?_ ?_
  · refine zs_aload_n hE 0 rfl rfl dX3_isRefusedTicks_7 ?_
    refine zs_iconst hE (v := (1 : Int32)) (by decide) dX3_isRefusedTicks_8 ?_
    refine zs_iload_n hE 1 rfl rfl dX3_isRefusedTicks_9 ?_
    refine zs_callV hE (As := [.int (1 : Int32), .int a1]) (encA := encI) (ci := 35) rfl (fun y0 => met_X3_isBad K y0 (1 : Int32) a1) q2937 q105 q2934 q2936 (zq qs48) hd_X3_isBad (by decide) (by decide) rfl (by simp [zcat_rf, zcat_i, zcat_j, zcat_f, zcat_d]) (fun z hz => by cases hz) dX3_isRefusedTicks_10 (fun r2 => ?_)
    show zS _ 13 _ [.int r2] _
    refine zs_if_eq hE 20 (by decide) dX3_isRefusedTicks_13 ?_ ?_
    · refine zs_iconst hE (v := (0 : Int32)) (by decide) dX3_isRefusedTicks_20 ?_
      exact zs_zret hE rfl dX3_isRefusedTicks_21
    · refine zs_iconst hE (v := (1 : Int32)) (by decide) dX3_isRefusedTicks_16 ?_
      refine zs_goto hE 21 (by decide) dX3_isRefusedTicks_17 ?_
      exact zs_zret hE rfl dX3_isRefusedTicks_21
  · refine zs_iconst hE (v := (0 : Int32)) (by decide) dX3_isRefusedTicks_20 ?_
    exact zs_zret hE rfl dX3_isRefusedTicks_21
theorem hd_X3_isRefusedTicks : (yX3_isRefusedTicks).cls ≠ "java/lang/invoke/MethodHandle" ∧ (yX3_isRefusedTicks).cls ≠ "java/lang/invoke/VarHandle" ∧ (parseMethodDescriptor (yX3_isRefusedTicks).desc).map (fun d => d.parameters.length) = some 1 := by decide +kernel
theorem met_X3_isRefusedTicks (K : ZK) (this : Nat) (a1 : Int32) : zMeth K yX3_isRefusedTicks (zws yX3_isRefusedTicks cX3_isRefusedTicks 2 (Option.some Jvm.ClassFile.FieldType.boolean)) 3 142 [.ref this, .int a1] encI (s_X3_isRefusedTicks K this a1) :=
  fun l G hl hK => zmet_of hl hK (by decide +kernel) rfl rfl (by simp [zsl_nil, zsl_rf, zsl_r, zsl_i, zsl_j, zsl_f, zsl_d]) (fun x hE => by simp only [zla_nil, zla_rf, zla_r, zla_i, zla_j, zla_f, zla_d, Nat.reduceAdd]; exact sm_X3_isRefusedTicks hE this a1)
