/-! SIM-LAYER, written by gen/dec.py -/
theorem sm_X3_run_B42 {x : ZX Int32} {K : ZK} (hE : zE x K cX3_run RX3 "run" 2 8 257 encI (Option.some Jvm.ClassFile.FieldType.int) []) (x0 : Nat) (self42 : Int32 → ZP Int32) (hs42 : ∀ v : Int32, zS x 42 [(0, va_rf (some x0)), (1, .int v)] [] (self42 v)) (x1 : Int32) : zS x 42 [(0, va_rf (some x0)), (1, .int x1)] [] (s_X3_run_B42 K x0 self42 x1) := by
  unfold s_X3_run_B42
  refine zs_iload_n hE 1 rfl rfl dX3_run_42 ?_
  refine zs_aload_n hE 0 rfl rfl dX3_run_43 ?_
  refine zs_getI hE (ci := 35) (k := 22) rfl (by decide) in_X3 (Or.inl q2851) (Or.inl rfl) dX3_run_44 (fun v3 => ?_)
  refine zs_icmp_ge hE 113 (by decide) dX3_run_47 ?_ ?_
  · refine zs_aload_n hE 0 rfl rfl dX3_run_113 ?_
    refine zs_aload_n hE 0 rfl rfl dX3_run_114 ?_
    refine zs_getI hE (ci := 35) (k := 22) rfl (by decide) in_X3 (Or.inl q2851) (Or.inl rfl) dX3_run_115 (fun v4 => ?_)
    refine zs_callV hE (As := [.int v4]) (encA := encI) (ci := 35) rfl (fun y0 => met_X3_keeps K y0 v4) q2965 q105 q2962 q2964 (zq qs55) hd_X3_keeps (by decide) (by decide) rfl (by simp [zcat_rf, zcat_i, zcat_j, zcat_f, zcat_d]) (fun z hz => by cases hz) dX3_run_118 (fun r5 => ?_)
    show zS _ 121 _ [.int r5] _
    exact zs_iret hE dX3_run_121
  · refine zs_aload_n hE 0 rfl rfl dX3_run_50 ?_
    refine zs_iload_n hE 1 rfl rfl dX3_run_51 ?_
    refine zs_callV hE (As := [.int x1]) (encA := encI) (ci := 35) rfl (fun y0 => met_X3_cannot K y0 x1) q3227 q105 q3224 q3226 (zq qs90) hd_X3_cannot (by decide) (by decide) rfl (by simp [zcat_rf, zcat_i, zcat_j, zcat_f, zcat_d]) (fun z hz => by cases hz) dX3_run_52 (fun r6 => ?_)
    show zS _ 55 _ [.int r6] _
    refine zs_if_ne hE 61 (by decide) dX3_run_55 ?_ ?_
    · refine zs_goto hE 107 (by decide) dX3_run_58 ?_
      refine zs_iinc hE 1 (v := (1 : Int32)) rfl (by decide) (by decide) (zcat_rf (some x0)) (lv' := [(0, va_rf (some x0))]) rfl dX3_run_107 ?_
      refine zs_goto hE 42 (by decide) dX3_run_110 ?_
      refine zs_sub [1, 0] rfl ?_
      exact hs42 (x1 + (1 : Int32))
    · refine zs_aload_n hE 0 rfl rfl dX3_run_61 ?_
      refine zs_getR hE (ci := 35) (k := 1) rfl (by decide) in_X3 (Or.inl q2830) (Or.inl rfl) dX3_run_62 (fun v7 => ?_)
      refine zs_iconst hE (v := (0 : Int32)) (by decide) dX3_run_65 ?_
      refine zs_aload_n hE 0 rfl rfl dX3_run_66 ?_
      refine zs_getR hE (ci := 35) (k := 0) rfl (by decide) in_X3 (Or.inl q2829) (Or.inl rfl) dX3_run_67 (fun v8 => ?_)
      refine zs_iconst hE (v := (0 : Int32)) (by decide) dX3_run_70 ?_
      refine zs_callS hE (As := [va_rf v7, .int (0 : Int32), va_rf v8, .int (0 : Int32)]) (encA := encV) (met_X3_copies K v7 (0 : Int32) v8 (0 : Int32)) q2923 q105 q2921 q2922 hd_X3_copies (by decide) (by decide) rfl (by simp [zcat_rf, zcat_i, zcat_j, zcat_f, zcat_d]) (fun z hz => by cases hz) dX3_run_71 (fun _ => ?_)
      show zS _ 74 _ [] _
      refine zs_aload_n hE 0 rfl rfl dX3_run_74 ?_
      refine zs_bipush hE (v := (10 : Int32)) (by decide) dX3_run_75 ?_
      refine zs_putI hE (ci := 35) (k := 9) rfl (by decide) in_X3 (Or.inl q2838) (Or.inl rfl) (Or.inl rfl) (fun h => nomatch h) rfl dX3_run_77 ?_
      refine zs_aload_n hE 0 rfl rfl dX3_run_80 ?_
      refine zs_iload_n hE 1 rfl rfl dX3_run_81 ?_
      refine zs_putI hE (ci := 35) (k := 10) rfl (by decide) in_X3 (Or.inl q2839) (Or.inl rfl) (Or.inl rfl) (fun h => nomatch h) rfl dX3_run_82 ?_
      refine zs_aload_n hE 0 rfl rfl dX3_run_85 ?_
      refine zs_aload_n hE 0 rfl rfl dX3_run_86 ?_
      refine zs_getI hE (ci := 35) (k := 7) rfl (by decide) in_X3 (Or.inl q2836) (Or.inl rfl) dX3_run_87 (fun v9 => ?_)
      refine zs_putI hE (ci := 35) (k := 11) rfl (by decide) in_X3 (Or.inl q2840) (Or.inl rfl) (Or.inl rfl) (fun h => nomatch h) rfl dX3_run_90 ?_
      refine zs_aload_n hE 0 rfl rfl dX3_run_93 ?_
      refine zs_aload_n hE 0 rfl rfl dX3_run_94 ?_
      refine zs_getI hE (ci := 35) (k := 8) rfl (by decide) in_X3 (Or.inl q2837) (Or.inl rfl) dX3_run_95 (fun v10 => ?_)
      refine zs_putI hE (ci := 35) (k := 12) rfl (by decide) in_X3 (Or.inl q2841) (Or.inl rfl) (Or.inl rfl) (fun h => nomatch h) rfl dX3_run_98 ?_
      refine zs_aload_n hE 0 rfl rfl dX3_run_101 ?_
      refine zs_iconst hE (v := (2 : Int32)) (by decide) dX3_run_102 ?_
      refine zs_callV hE (As := [.int (2 : Int32)]) (encA := encI) (ci := 35) rfl (fun y0 => met_X3_no K y0 (2 : Int32)) q2953 q105 q2950 q2952 (zq qs52) hd_X3_no (by decide) (by decide) rfl (by simp [zcat_rf, zcat_i, zcat_j, zcat_f, zcat_d]) (fun z hz => by cases hz) dX3_run_103 (fun r11 => ?_)
      show zS _ 106 _ [.int r11] _
      exact zs_iret hE dX3_run_106
theorem sm_X3_run_L42 {x : ZX Int32} {K : ZK} (hE : zE x K cX3_run RX3 "run" 2 8 257 encI (Option.some Jvm.ClassFile.FieldType.int) []) (x0 : Nat) (v : Int32) : zS x 42 [(0, va_rf (some x0)), (1, .int v)] [] (s_X3_run_L42 K x0 v) := by
  unfold s_X3_run_L42
  exact zs_loop (lvf := fun v => [(0, va_rf (some x0)), (1, .int v)]) (fun self42 hs42 v => sm_X3_run_B42 hE x0 self42 hs42 v) v
theorem sm_X3_run_J24 {x : ZX Int32} {K : ZK} (hE : zE x K cX3_run RX3 "run" 2 8 257 encI (Option.some Jvm.ClassFile.FieldType.int) []) (x0 : Nat) (t0 : Int32) (t1 : Nat) : zS x 24 [(0, va_rf (some x0))] [.int t0, va_rf (some t1)] (s_X3_run_J24 K x0 t0 t1) := by
  unfold s_X3_run_J24
  refine zs_putI hE (ci := 35) (k := 13) rfl (by decide) in_X3 (Or.inl q2842) (Or.inl rfl) (Or.inl rfl) (fun h => nomatch h) rfl dX3_run_24 ?_
  refine zs_aload_n hE 0 rfl rfl dX3_run_27 ?_
  refine zs_getI hE (ci := 35) (k := 23) rfl (by decide) in_X3 (Or.inl q2852) (Or.inl rfl) dX3_run_28 (fun v2 => ?_)
  refine zs_if_eq hE 40 (by decide) dX3_run_31 ?_ ?_
  · refine zs_iconst hE (v := (0 : Int32)) (by decide) dX3_run_40 ?_
    refine zs_istore_n hE (i := 1) (q := 1) rfl (by decide) (zcat_rf (some x0)) (lv' := [(0, va_rf (some x0))]) rfl dX3_run_41 ?_
    refine zs_sub [1, 0] rfl ?_
    exact sm_X3_run_L42 hE x0 (0 : Int32)
  · refine zs_aload_n hE 0 rfl rfl dX3_run_34 ?_
    refine zs_iconst hE (v := (1 : Int32)) (by decide) dX3_run_35 ?_
    refine zs_callV hE (As := [.int (1 : Int32)]) (encA := encI) (ci := 35) rfl (fun y0 => met_X3_no K y0 (1 : Int32)) q2953 q105 q2950 q2952 (zq qs52) hd_X3_no (by decide) (by decide) rfl (by simp [zcat_rf, zcat_i, zcat_j, zcat_f, zcat_d]) (fun z hz => by cases hz) dX3_run_36 (fun r12 => ?_)
    show zS _ 39 _ [.int r12] _
    exact zs_iret hE dX3_run_39
theorem sm_X3_run {x : ZX Int32} {K : ZK} (hE : zE x K cX3_run RX3 "run" 2 8 257 encI (Option.some Jvm.ClassFile.FieldType.int) []) (this : Nat) : zS x 0 [(0, va_rf (some this))] [] (s_X3_run K this) := by
  unfold s_X3_run
  refine zs_aload_n hE 0 rfl rfl dX3_run_0 ?_
  refine zs_callV hE (As := []) (encA := encV) (ci := 35) rfl (fun y0 => met_X3_begins K y0) q2920 q105 q2917 q2919 (zq qs46) hd_X3_begins (by decide) (by decide) rfl (by simp [zcat_rf, zcat_i, zcat_j, zcat_f, zcat_d]) (fun z hz => by cases hz) dX3_run_1 (fun _ => ?_)
  show zS _ 4 _ [] _
  refine zs_aload_n hE 0 rfl rfl dX3_run_4 ?_
  refine zs_callV hE (As := []) (encA := encV) (ci := 35) rfl (fun y0 => met_X3_reads K y0) q3203 q105 q3200 q3202 (zq qs84) hd_X3_reads (by decide) (by decide) rfl (by simp [zcat_rf, zcat_i, zcat_j, zcat_f, zcat_d]) (fun z hz => by cases hz) dX3_run_5 (fun _ => ?_)
  show zS _ 8 _ [] _
  refine zs_aload_n hE 0 rfl rfl dX3_run_8 ?_
  refine zs_aload_n hE 0 rfl rfl dX3_run_9 ?_
  refine zs_getI hE (ci := 35) (k := 23) rfl (by decide) in_X3 (Or.inl q2852) (Or.inl rfl) dX3_run_10 (fun v1 => ?_)
  refine zs_if_eq hE 23 (by decide) dX3_run_13 ?_ ?_
  · refine zs_iconst hE (v := (-1 : Int32)) (by decide) dX3_run_23 ?_
    exact sm_X3_run_J24 hE this (-1 : Int32) this
  · refine zs_aload_n hE 0 rfl rfl dX3_run_16 ?_
    refine zs_getI hE (ci := 35) (k := 21) rfl (by decide) in_X3 (Or.inl q2850) (Or.inl rfl) dX3_run_17 (fun v13 => ?_)
    refine zs_goto hE 24 (by decide) dX3_run_20 ?_
    exact sm_X3_run_J24 hE this v13 this
theorem hd_X3_run : (yX3_run).cls ≠ "java/lang/invoke/MethodHandle" ∧ (yX3_run).cls ≠ "java/lang/invoke/VarHandle" ∧ (parseMethodDescriptor (yX3_run).desc).map (fun d => d.parameters.length) = some 0 := by decide +kernel
theorem met_X3_run (K : ZK) (this : Nat) : zMeth K yX3_run (zws yX3_run cX3_run 2 (Option.some Jvm.ClassFile.FieldType.int)) 8 257 [.ref this] encI (s_X3_run K this) :=
  fun l G hl hK => zmet_of hl hK (by decide +kernel) rfl rfl (by simp [zsl_nil, zsl_rf, zsl_r, zsl_i, zsl_j, zsl_f, zsl_d]) (fun x hE => by simp only [zla_nil, zla_rf, zla_r, zla_i, zla_j, zla_f, zla_d, Nat.reduceAdd]; exact sm_X3_run hE this)
theorem sm_X3_faultPosition {x : ZX Int32} {K : ZK} (hE : zE x K cX3_faultPosition RX3 "faultPosition" 1 1 100 encI (Option.some Jvm.ClassFile.FieldType.int) []) (this : Nat) : zS x 0 [(0, va_rf (some this))] [] (s_X3_faultPosition K this) := by
  unfold s_X3_faultPosition
  refine zs_aload_n hE 0 rfl rfl dX3_faultPosition_0 ?_
  refine zs_iconst hE (v := (0 : Int32)) (by decide) dX3_faultPosition_1 ?_
  refine zs_putI hE (ci := 35) (k := 5) rfl (by decide) in_X3 (Or.inl q2834) (Or.inl rfl) (Or.inl rfl) (fun h => nomatch h) rfl dX3_faultPosition_2 ?_
  refine zs_aload_n hE 0 rfl rfl dX3_faultPosition_5 ?_
  refine zs_getI hE (ci := 35) (k := 13) rfl (by decide) in_X3 (Or.inl q2842) (Or.inl rfl) dX3_faultPosition_6 (fun v1 => ?_)
  exact zs_iret hE dX3_faultPosition_9
theorem hd_X3_faultPosition : (yX3_faultPosition).cls ≠ "java/lang/invoke/MethodHandle" ∧ (yX3_faultPosition).cls ≠ "java/lang/invoke/VarHandle" ∧ (parseMethodDescriptor (yX3_faultPosition).desc).map (fun d => d.parameters.length) = some 0 := by decide +kernel
theorem met_X3_faultPosition (K : ZK) (this : Nat) : zMeth K yX3_faultPosition (zws yX3_faultPosition cX3_faultPosition 1 (Option.some Jvm.ClassFile.FieldType.int)) 1 100 [.ref this] encI (s_X3_faultPosition K this) :=
  fun l G hl hK => zmet_of hl hK (by decide +kernel) rfl rfl (by simp [zsl_nil, zsl_rf, zsl_r, zsl_i, zsl_j, zsl_f, zsl_d]) (fun x hE => by simp only [zla_nil, zla_rf, zla_r, zla_i, zla_j, zla_f, zla_d, Nat.reduceAdd]; exact sm_X3_faultPosition hE this)
theorem sm_X3_reason_J39 {x : ZX Int32} {K : ZK} (hE : zE x K cX3_reason RX3 "reason" 3 2 122 encI (Option.some Jvm.ClassFile.FieldType.int) []) (x0 : Nat) : zS x 39 [(0, va_rf (some x0))] [] (s_X3_reason_J39 K x0) := by
  unfold s_X3_reason_J39
  refine zs_aload_n hE 0 rfl rfl dX3_reason_39 ?_
  refine zs_iconst hE (v := (2 : Int32)) (by decide) dX3_reason_40 ?_
  refine zs_callV hE (As := [.int (2 : Int32)]) (encA := encI) (ci := 35) rfl (fun y0 => met_X3_no K y0 (2 : Int32)) q2953 q105 q2950 q2952 (zq qs52) hd_X3_no (by decide) (by decide) rfl (by simp [zcat_rf, zcat_i, zcat_j, zcat_f, zcat_d]) (fun z hz => by cases hz) dX3_reason_41 (fun r4 => ?_)
  show zS _ 44 _ [.int r4] _
  exact zs_iret hE dX3_reason_44
theorem sm_X3_reason_J45 {x : ZX Int32} {K : ZK} (hE : zE x K cX3_reason RX3 "reason" 3 2 122 encI (Option.some Jvm.ClassFile.FieldType.int) []) (x0 : Nat) (x1 : Int32) (x2 : Int32) : zS x 45 [(0, va_rf (some x0)), (1, .int x1), (2, .int x2)] [] (s_X3_reason_J45 K x0 x1 x2) := by
  unfold s_X3_reason_J45
  refine zs_iload_n hE 1 rfl rfl dX3_reason_45 ?_
  refine zs_iconst hE (v := (1 : Int32)) (by decide) dX3_reason_46 ?_
  refine zs_icmp_ne hE 66 (by decide) dX3_reason_47 ?_ ?_
  · refine zs_iload_n hE 2 rfl rfl dX3_reason_50 ?_
    refine zs_if_eq hE 61 (by decide) dX3_reason_51 ?_ ?_
    · refine zs_aload_n hE 0 rfl rfl dX3_reason_61 ?_
      refine zs_getI hE (ci := 35) (k := 11) rfl (by decide) in_X3 (Or.inl q2840) (Or.inl rfl) dX3_reason_62 (fun v6 => ?_)
      exact zs_iret hE dX3_reason_65
    · refine zs_aload_n hE 0 rfl rfl dX3_reason_54 ?_
      refine zs_getI hE (ci := 35) (k := 12) rfl (by decide) in_X3 (Or.inl q2841) (Or.inl rfl) dX3_reason_55 (fun v7 => ?_)
      refine zs_goto hE 65 (by decide) dX3_reason_58 ?_
      exact zs_iret hE dX3_reason_65
  · refine zs_iload_n hE 2 rfl rfl dX3_reason_66 ?_
    refine zs_if_eq hE 77 (by decide) dX3_reason_67 ?_ ?_
    · refine zs_aload_n hE 0 rfl rfl dX3_reason_77 ?_
      refine zs_getI hE (ci := 35) (k := 9) rfl (by decide) in_X3 (Or.inl q2838) (Or.inl rfl) dX3_reason_78 (fun v8 => ?_)
      exact zs_iret hE dX3_reason_81
    · refine zs_aload_n hE 0 rfl rfl dX3_reason_70 ?_
      refine zs_getI hE (ci := 35) (k := 10) rfl (by decide) in_X3 (Or.inl q2839) (Or.inl rfl) dX3_reason_71 (fun v9 => ?_)
      refine zs_goto hE 81 (by decide) dX3_reason_74 ?_
      exact zs_iret hE dX3_reason_81
theorem sm_X3_reason {x : ZX Int32} {K : ZK} (hE : zE x K cX3_reason RX3 "reason" 3 2 122 encI (Option.some Jvm.ClassFile.FieldType.int) []) (this : Nat) (a1 : Int32) (a2 : Int32) : zS x 0 [(0, va_rf (some this)), (1, .int a1), (2, .int a2)] [] (s_X3_reason K this a1 a2) := by
  unfold s_X3_reason
  refine zs_aload_n hE 0 rfl rfl dX3_reason_0 ?_
  refine zs_iconst hE (v := (0 : Int32)) (by decide) dX3_reason_1 ?_
  refine zs_putI hE (ci := 35) (k := 5) rfl (by decide) in_X3 (Or.inl q2834) (Or.inl rfl) (Or.inl rfl) (fun h => nomatch h) rfl dX3_reason_2 ?_
  refine zs_iload_n hE 1 rfl rfl dX3_reason_5 ?_
  refine zs_iconst hE (v := (0 : Int32)) (by decide) dX3_reason_6 ?_
  refine zs_iconst hE (v := (1 : Int32)) (by decide) dX3_reason_7 ?_
  refine zs_callS hE (As := [.int a1, .int (0 : Int32), .int (1 : Int32)]) (encA := encI) (met_X3_in K a1 (0 : Int32) (1 : Int32)) q2933 q105 q2931 q2932 hd_X3_in (by decide) (by decide) rfl (by simp [zcat_rf, zcat_i, zcat_j, zcat_f, zcat_d]) (fun z hz => by cases hz) dX3_reason_8 (fun r1 => ?_)
  show zS _ 11 _ [.int r1] _
  refine zs_if_ne hE 20 (by decide) dX3_reason_11 ?_ ?_
  · refine zs_aload_n hE 0 rfl rfl dX3_reason_14 ?_
    refine zs_iconst hE (v := (1 : Int32)) (by decide) dX3_reason_15 ?_
    refine zs_callV hE (As := [.int (1 : Int32)]) (encA := encI) (ci := 35) rfl (fun y0 => met_X3_no K y0 (1 : Int32)) q2953 q105 q2950 q2952 (zq qs52) hd_X3_no (by decide) (by decide) rfl (by simp [zcat_rf, zcat_i, zcat_j, zcat_f, zcat_d]) (fun z hz => by cases hz) dX3_reason_16 (fun r2 => ?_)
    show zS _ 19 _ [.int r2] _
    exact zs_iret hE dX3_reason_19
  · refine zs_aload_n hE 0 rfl rfl dX3_reason_20 ?_
    refine zs_getI hE (ci := 35) (k := 9) rfl (by decide) in_X3 (Or.inl q2838) (Or.inl rfl) dX3_reason_21 (fun v3 => ?_)
    refine zs_if_eq hE 39 (by decide) dX3_reason_24 ?_ ?_
    · refine zs_sub [0] rfl ?_
      exact sm_X3_reason_J39 hE this
    · refine zs_iload_n hE 1 rfl rfl dX3_reason_27 ?_
      refine zs_iconst hE (v := (1 : Int32)) (by decide) dX3_reason_28 ?_
      refine zs_icmp_ne hE 45 (by decide) dX3_reason_29 ?_ ?_
      · refine zs_aload_n hE 0 rfl rfl dX3_reason_32 ?_
        refine zs_getI hE (ci := 35) (k := 11) rfl (by decide) in_X3 (Or.inl q2840) (Or.inl rfl) dX3_reason_33 (fun v5 => ?_)
        refine zs_if_ne hE 45 (by decide) dX3_reason_36 ?_ ?_
        · refine zs_sub [0] rfl ?_
          exact sm_X3_reason_J39 hE this
        · exact sm_X3_reason_J45 hE this a1 a2
      · exact sm_X3_reason_J45 hE this a1 a2
theorem hd_X3_reason : (yX3_reason).cls ≠ "java/lang/invoke/MethodHandle" ∧ (yX3_reason).cls ≠ "java/lang/invoke/VarHandle" ∧ (parseMethodDescriptor (yX3_reason).desc).map (fun d => d.parameters.length) = some 2 := by decide +kernel
theorem met_X3_reason (K : ZK) (this : Nat) (a1 : Int32) (a2 : Int32) : zMeth K yX3_reason (zws yX3_reason cX3_reason 3 (Option.some Jvm.ClassFile.FieldType.int)) 2 122 [.ref this, .int a1, .int a2] encI (s_X3_reason K this a1 a2) :=
  fun l G hl hK => zmet_of hl hK (by decide +kernel) rfl rfl (by simp [zsl_nil, zsl_rf, zsl_r, zsl_i, zsl_j, zsl_f, zsl_d]) (fun x hE => by simp only [zla_nil, zla_rf, zla_r, zla_i, zla_j, zla_f, zla_d, Nat.reduceAdd]; exact sm_X3_reason hE this a1 a2)
theorem sm_X3_writes {x : ZX Unit} {K : ZK} (hE : zE x K cX3_writes RX3 "writes" 2 1 100 encV none []) (this : Nat) (a1 : Int32) : zS x 0 [(0, va_rf (some this)), (1, .int a1)] [] (s_X3_writes K this a1) := by
  unfold s_X3_writes
  refine zs_aload_n hE 0 rfl rfl dX3_writes_0 ?_
  refine zs_getR hE (ci := 35) (k := 24) rfl (by decide) in_X3 (Or.inl q2853) (Or.inl rfl) dX3_writes_1 (fun v1 => ?_)
  refine zs_aload_n hE 0 rfl rfl dX3_writes_4 ?_
  refine zs_getI hE (ci := 35) (k := 25) rfl (by decide) in_X3 (Or.inl q2854) (Or.inl rfl) dX3_writes_5 (fun v2 => ?_)
  refine zs_iload_n hE 1 rfl rfl dX3_writes_8 ?_
  refine zs_ast hE dX3_writes_9 ?_
  refine zs_aload_n hE 0 rfl rfl dX3_writes_10 ?_
  refine zs_dup hE (zcat_rf _) dX3_writes_11 ?_
  refine zs_getI hE (ci := 35) (k := 25) rfl (by decide) in_X3 (Or.inl q2854) (Or.inl rfl) dX3_writes_12 (fun v3 => ?_)
  refine zs_iconst hE (v := (1 : Int32)) (by decide) dX3_writes_15 ?_
  refine zs_iadd hE dX3_writes_16 ?_
  refine zs_putI hE (ci := 35) (k := 25) rfl (by decide) in_X3 (Or.inl q2854) (Or.inl rfl) (Or.inl rfl) (fun h => nomatch h) rfl dX3_writes_17 ?_
  exact zs_vret hE dX3_writes_20
theorem hd_X3_writes : (yX3_writes).cls ≠ "java/lang/invoke/MethodHandle" ∧ (yX3_writes).cls ≠ "java/lang/invoke/VarHandle" ∧ (parseMethodDescriptor (yX3_writes).desc).map (fun d => d.parameters.length) = some 1 := by decide +kernel
theorem met_X3_writes (K : ZK) (this : Nat) (a1 : Int32) : zMeth K yX3_writes (zws yX3_writes cX3_writes 2 none) 1 100 [.ref this, .int a1] encV (s_X3_writes K this a1) :=
  fun l G hl hK => zmet_of hl hK (by decide +kernel) rfl rfl (by simp [zsl_nil, zsl_rf, zsl_r, zsl_i, zsl_j, zsl_f, zsl_d]) (fun x hE => by simp only [zla_nil, zla_rf, zla_r, zla_i, zla_j, zla_f, zla_d, Nat.reduceAdd]; exact sm_X3_writes hE this a1)
theorem sm_X3_writesNobody {x : ZX Unit} {K : ZK} (hE : zE x K cX3_writesNobody RX3 "writesNobody" 1 2 121 encV none []) (this : Nat) : zS x 0 [(0, va_rf (some this))] [] (s_X3_writesNobody K this) := by
  unfold s_X3_writesNobody
  refine zs_aload_n hE 0 rfl rfl dX3_writesNobody_0 ?_
  refine zs_bipush hE (v := (110 : Int32)) (by decide) dX3_writesNobody_1 ?_
  refine zs_callV hE (As := [.int (110 : Int32)]) (encA := encV) (ci := 35) rfl (fun y0 => met_X3_writes K y0 (110 : Int32)) q3247 q105 q3244 q3246 (zq qs92) hd_X3_writes (by decide) (by decide) rfl (by simp [zcat_rf, zcat_i, zcat_j, zcat_f, zcat_d]) (fun z hz => by cases hz) dX3_writesNobody_3 (fun _ => ?_)
  show zS _ 6 _ [] _
  refine zs_aload_n hE 0 rfl rfl dX3_writesNobody_6 ?_
  refine zs_bipush hE (v := (111 : Int32)) (by decide) dX3_writesNobody_7 ?_
  refine zs_callV hE (As := [.int (111 : Int32)]) (encA := encV) (ci := 35) rfl (fun y0 => met_X3_writes K y0 (111 : Int32)) q3247 q105 q3244 q3246 (zq qs92) hd_X3_writes (by decide) (by decide) rfl (by simp [zcat_rf, zcat_i, zcat_j, zcat_f, zcat_d]) (fun z hz => by cases hz) dX3_writesNobody_9 (fun _ => ?_)
  show zS _ 12 _ [] _
  refine zs_aload_n hE 0 rfl rfl dX3_writesNobody_12 ?_
  refine zs_bipush hE (v := (98 : Int32)) (by decide) dX3_writesNobody_13 ?_
  refine zs_callV hE (As := [.int (98 : Int32)]) (encA := encV) (ci := 35) rfl (fun y0 => met_X3_writes K y0 (98 : Int32)) q3247 q105 q3244 q3246 (zq qs92) hd_X3_writes (by decide) (by decide) rfl (by simp [zcat_rf, zcat_i, zcat_j, zcat_f, zcat_d]) (fun z hz => by cases hz) dX3_writesNobody_15 (fun _ => ?_)
  show zS _ 18 _ [] _
  refine zs_aload_n hE 0 rfl rfl dX3_writesNobody_18 ?_
  refine zs_bipush hE (v := (111 : Int32)) (by decide) dX3_writesNobody_19 ?_
  refine zs_callV hE (As := [.int (111 : Int32)]) (encA := encV) (ci := 35) rfl (fun y0 => met_X3_writes K y0 (111 : Int32)) q3247 q105 q3244 q3246 (zq qs92) hd_X3_writes (by decide) (by decide) rfl (by simp [zcat_rf, zcat_i, zcat_j, zcat_f, zcat_d]) (fun z hz => by cases hz) dX3_writesNobody_21 (fun _ => ?_)
  show zS _ 24 _ [] _
  refine zs_aload_n hE 0 rfl rfl dX3_writesNobody_24 ?_
  refine zs_bipush hE (v := (100 : Int32)) (by decide) dX3_writesNobody_25 ?_
  refine zs_callV hE (As := [.int (100 : Int32)]) (encA := encV) (ci := 35) rfl (fun y0 => met_X3_writes K y0 (100 : Int32)) q3247 q105 q3244 q3246 (zq qs92) hd_X3_writes (by decide) (by decide) rfl (by simp [zcat_rf, zcat_i, zcat_j, zcat_f, zcat_d]) (fun z hz => by cases hz) dX3_writesNobody_27 (fun _ => ?_)
  show zS _ 30 _ [] _
  refine zs_aload_n hE 0 rfl rfl dX3_writesNobody_30 ?_
  refine zs_bipush hE (v := (121 : Int32)) (by decide) dX3_writesNobody_31 ?_
  refine zs_callV hE (As := [.int (121 : Int32)]) (encA := encV) (ci := 35) rfl (fun y0 => met_X3_writes K y0 (121 : Int32)) q3247 q105 q3244 q3246 (zq qs92) hd_X3_writes (by decide) (by decide) rfl (by simp [zcat_rf, zcat_i, zcat_j, zcat_f, zcat_d]) (fun z hz => by cases hz) dX3_writesNobody_33 (fun _ => ?_)
  show zS _ 36 _ [] _
  exact zs_vret hE dX3_writesNobody_36
theorem hd_X3_writesNobody : (yX3_writesNobody).cls ≠ "java/lang/invoke/MethodHandle" ∧ (yX3_writesNobody).cls ≠ "java/lang/invoke/VarHandle" ∧ (parseMethodDescriptor (yX3_writesNobody).desc).map (fun d => d.parameters.length) = some 0 := by decide +kernel
theorem met_X3_writesNobody (K : ZK) (this : Nat) : zMeth K yX3_writesNobody (zws yX3_writesNobody cX3_writesNobody 1 none) 2 121 [.ref this] encV (s_X3_writesNobody K this) :=
  fun l G hl hK => zmet_of hl hK (by decide +kernel) rfl rfl (by simp [zsl_nil, zsl_rf, zsl_r, zsl_i, zsl_j, zsl_f, zsl_d]) (fun x hE => by simp only [zla_nil, zla_rf, zla_r, zla_i, zla_j, zla_f, zla_d, Nat.reduceAdd]; exact sm_X3_writesNobody hE this)
theorem sm_X3_writesNumber_B20 {x : ZX Unit} {K : ZK} (hE : zE x K cX3_writesNumber RX3 "writesNumber" 4 2 121 encV none []) (x0 : Nat) (x1 : Int32) (self20 : Int32 → ZP Unit) (hs20 : ∀ v : Int32, zS x 20 [(0, va_rf (some x0)), (1, .int x1), (3, .int v)] [] (self20 v)) (x3 : Int32) : zS x 20 [(0, va_rf (some x0)), (1, .int x1), (3, .int x3)] [] (s_X3_writesNumber_B20 K x0 x1 self20 x3) := by
  unfold s_X3_writesNumber_B20
  refine zs_iload_n hE 2 rfl rfl dX3_writesNumber_20 ?_
  refine zs_if_le hE 45 (by decide) dX3_writesNumber_21 ?_ ?_
  · exact zs_vret hE dX3_writesNumber_45
  · refine zs_aload_n hE 0 rfl rfl dX3_writesNumber_24 ?_
    refine zs_bipush hE (v := (48 : Int32)) (by decide) dX3_writesNumber_25 ?_
    refine zs_iload_n hE 1 rfl rfl dX3_writesNumber_27 ?_
    refine zs_iload_n hE 2 rfl rfl dX3_writesNumber_28 ?_
    refine zs_idiv hE dX3_writesNumber_29 ?_
    refine zs_bipush hE (v := (10 : Int32)) (by decide) dX3_writesNumber_30 ?_
    refine zs_irem hE dX3_writesNumber_32 ?_
    refine zs_iadd hE dX3_writesNumber_33 ?_
    refine zs_callV hE (As := [.int ((48 : Int32) + ((x1 / x3) - (x1 / x3) / (10 : Int32) * (10 : Int32)))]) (encA := encV) (ci := 35) rfl (fun y0 => met_X3_writes K y0 ((48 : Int32) + ((x1 / x3) - (x1 / x3) / (10 : Int32) * (10 : Int32)))) q3247 q105 q3244 q3246 (zq qs92) hd_X3_writes (by decide) (by decide) rfl (by simp [zcat_rf, zcat_i, zcat_j, zcat_f, zcat_d]) (fun z hz => by cases hz) dX3_writesNumber_34 (fun _ => ?_)
    show zS _ 37 _ [] _
    refine zs_iload_n hE 2 rfl rfl dX3_writesNumber_37 ?_
    refine zs_bipush hE (v := (10 : Int32)) (by decide) dX3_writesNumber_38 ?_
    refine zs_idiv hE dX3_writesNumber_40 ?_
    refine zs_istore_n hE (i := 3) (q := 3) rfl (by decide) (trivial) (lv' := [(0, va_rf (some x0)), (1, .int x1)]) rfl dX3_writesNumber_41 ?_
    refine zs_goto hE 20 (by decide) dX3_writesNumber_42 ?_
    refine zs_sub [1, 2, 0] rfl ?_
    exact hs20 (x3 / (10 : Int32))
theorem sm_X3_writesNumber_L20 {x : ZX Unit} {K : ZK} (hE : zE x K cX3_writesNumber RX3 "writesNumber" 4 2 121 encV none []) (x0 : Nat) (x1 : Int32) (v : Int32) : zS x 20 [(0, va_rf (some x0)), (1, .int x1), (3, .int v)] [] (s_X3_writesNumber_L20 K x0 x1 v) := by
  unfold s_X3_writesNumber_L20
  exact zs_loop (lvf := fun v => [(0, va_rf (some x0)), (1, .int x1), (3, .int v)]) (fun self20 hs20 v => sm_X3_writesNumber_B20 hE x0 x1 self20 hs20 v) v
theorem sm_X3_writesNumber_B2 {x : ZX Unit} {K : ZK} (hE : zE x K cX3_writesNumber RX3 "writesNumber" 4 2 121 encV none []) (x0 : Nat) (x1 : Int32) (self2 : Int32 → ZP Unit) (hs2 : ∀ v : Int32, zS x 2 [(0, va_rf (some x0)), (1, .int x1), (2, .int v)] [] (self2 v)) (x2 : Int32) : zS x 2 [(0, va_rf (some x0)), (1, .int x1), (2, .int x2)] [] (s_X3_writesNumber_B2 K x0 x1 self2 x2) := by
  unfold s_X3_writesNumber_B2
  refine zs_iload_n hE 1 rfl rfl dX3_writesNumber_2 ?_
  refine zs_iload_n hE 2 rfl rfl dX3_writesNumber_3 ?_
  refine zs_idiv hE dX3_writesNumber_4 ?_
  refine zs_bipush hE (v := (10 : Int32)) (by decide) dX3_writesNumber_5 ?_
  refine zs_icmp_lt hE 18 (by decide) dX3_writesNumber_7 ?_ ?_
  · refine zs_iload_n hE 2 rfl rfl dX3_writesNumber_18 ?_
    refine zs_istore_n hE (i := 3) (q := 3) rfl (by decide) (rfl) (lv' := [(0, va_rf (some x0)), (1, .int x1), (2, .int x2)]) rfl dX3_writesNumber_19 ?_
    refine zs_sub [1, 2, 0] rfl ?_
    exact sm_X3_writesNumber_L20 hE x0 x1 x2
  · refine zs_iload_n hE 2 rfl rfl dX3_writesNumber_10 ?_
    refine zs_bipush hE (v := (10 : Int32)) (by decide) dX3_writesNumber_11 ?_
    refine zs_imul hE dX3_writesNumber_13 ?_
    refine zs_istore_n hE (i := 2) (q := 2) rfl (by decide) (rfl) (lv' := [(0, va_rf (some x0)), (1, .int x1)]) rfl dX3_writesNumber_14 ?_
    refine zs_goto hE 2 (by decide) dX3_writesNumber_15 ?_
    refine zs_sub [1, 2, 0] rfl ?_
    exact hs2 (x2 * (10 : Int32))
theorem sm_X3_writesNumber_L2 {x : ZX Unit} {K : ZK} (hE : zE x K cX3_writesNumber RX3 "writesNumber" 4 2 121 encV none []) (x0 : Nat) (x1 : Int32) (v : Int32) : zS x 2 [(0, va_rf (some x0)), (1, .int x1), (2, .int v)] [] (s_X3_writesNumber_L2 K x0 x1 v) := by
  unfold s_X3_writesNumber_L2
  exact zs_loop (lvf := fun v => [(0, va_rf (some x0)), (1, .int x1), (2, .int v)]) (fun self2 hs2 v => sm_X3_writesNumber_B2 hE x0 x1 self2 hs2 v) v
theorem sm_X3_writesNumber {x : ZX Unit} {K : ZK} (hE : zE x K cX3_writesNumber RX3 "writesNumber" 4 2 121 encV none []) (this : Nat) (a1 : Int32) : zS x 0 [(0, va_rf (some this)), (1, .int a1)] [] (s_X3_writesNumber K this a1) := by
  unfold s_X3_writesNumber
  refine zs_iconst hE (v := (1 : Int32)) (by decide) dX3_writesNumber_0 ?_
  refine zs_istore_n hE (i := 2) (q := 2) rfl (by decide) (rfl) (lv' := [(0, va_rf (some this)), (1, .int a1)]) rfl dX3_writesNumber_1 ?_
  refine zs_sub [1, 2, 0] rfl ?_
  exact sm_X3_writesNumber_L2 hE this a1 (1 : Int32)
theorem hd_X3_writesNumber : (yX3_writesNumber).cls ≠ "java/lang/invoke/MethodHandle" ∧ (yX3_writesNumber).cls ≠ "java/lang/invoke/VarHandle" ∧ (parseMethodDescriptor (yX3_writesNumber).desc).map (fun d => d.parameters.length) = some 1 := by decide +kernel
theorem met_X3_writesNumber (K : ZK) (this : Nat) (a1 : Int32) : zMeth K yX3_writesNumber (zws yX3_writesNumber cX3_writesNumber 4 none) 2 121 [.ref this, .int a1] encV (s_X3_writesNumber K this a1) :=
  fun l G hl hK => zmet_of hl hK (by decide +kernel) rfl rfl (by simp [zsl_nil, zsl_rf, zsl_r, zsl_i, zsl_j, zsl_f, zsl_d]) (fun x hE => by simp only [zla_nil, zla_rf, zla_r, zla_i, zla_j, zla_f, zla_d, Nat.reduceAdd]; exact sm_X3_writesNumber hE this a1)
theorem sm_X3_tellRing_J144 {x : ZX Int32} {K : ZK} (hE : zE x K cX3_tellRing RX3 "tellRing" 3 3 144 encI (Option.some Jvm.ClassFile.FieldType.int) []) (x0 : Nat) (x1 : Int32) (t0 : Int32) (t1 : Option Nat) (t2 : Int32) (t3 : Nat) (self25 : Int32 → ZP Int32) (hs25 : ∀ v : Int32, zS x 25 [(0, va_rf (some x0)), (1, .int v)] [] (self25 v)) : zS x 144 [(0, va_rf (some x0)), (1, .int x1)] [.int t0, va_rf t1, .int t2, va_rf (some t3)] (s_X3_tellRing_J144 K x0 x1 t0 t1 t2 t3 self25) := by
  unfold s_X3_tellRing_J144
  refine zs_ald hE dX3_tellRing_144 (fun v18 => ?_)
  refine zs_iadd hE dX3_tellRing_145 ?_
  refine zs_callV hE (As := [.int (t2 + v18)]) (encA := encV) (ci := 35) rfl (fun y0 => met_X3_writes K y0 (t2 + v18)) q3247 q105 q3244 q3246 (zq qs92) hd_X3_writes (by decide) (by decide) rfl (by simp [zcat_rf, zcat_i, zcat_j, zcat_f, zcat_d]) (fun z hz => by cases hz) dX3_tellRing_146 (fun _ => ?_)
  show zS _ 149 _ [] _
  refine zs_iinc hE 1 (v := (1 : Int32)) rfl (by decide) (by decide) (zcat_rf (some x0)) (lv' := [(0, va_rf (some x0))]) rfl dX3_tellRing_149 ?_
  refine zs_goto hE 25 (by decide) dX3_tellRing_152 ?_
  refine zs_sub [1, 0] rfl ?_
  exact hs25 (x1 + (1 : Int32))
theorem sm_X3_tellRing_J116 {x : ZX Int32} {K : ZK} (hE : zE x K cX3_tellRing RX3 "tellRing" 3 3 144 encI (Option.some Jvm.ClassFile.FieldType.int) []) (x0 : Nat) (x1 : Int32) (t0 : Int32) (t1 : Nat) (self25 : Int32 → ZP Int32) (hs25 : ∀ v : Int32, zS x 25 [(0, va_rf (some x0)), (1, .int v)] [] (self25 v)) : zS x 116 [(0, va_rf (some x0)), (1, .int x1)] [.int t0, va_rf (some t1)] (s_X3_tellRing_J116 K x0 x1 t0 t1 self25) := by
  unfold s_X3_tellRing_J116
  refine zs_callV hE (As := [.int t0]) (encA := encV) (ci := 35) rfl (fun y0 => met_X3_writes K y0 t0) q3247 q105 q3244 q3246 (zq qs92) hd_X3_writes (by decide) (by decide) rfl (by simp [zcat_rf, zcat_i, zcat_j, zcat_f, zcat_d]) (fun z hz => by cases hz) dX3_tellRing_116 (fun _ => ?_)
  show zS _ 119 _ [] _
  refine zs_aload_n hE 0 rfl rfl dX3_tellRing_119 ?_
  refine zs_bipush hE (v := (48 : Int32)) (by decide) dX3_tellRing_120 ?_
  refine zs_aload_n hE 0 rfl rfl dX3_tellRing_122 ?_
  refine zs_getR hE (ci := 35) (k := 0) rfl (by decide) in_X3 (Or.inl q2829) (Or.inl rfl) dX3_tellRing_123 (fun v15 => ?_)
  refine zs_aload_n hE 0 rfl rfl dX3_tellRing_126 ?_
  refine zs_getR hE (ci := 35) (k := 0) rfl (by decide) in_X3 (Or.inl q2829) (Or.inl rfl) dX3_tellRing_127 (fun v16 => ?_)
  refine zs_bipush hE (v := (18 : Int32)) (by decide) dX3_tellRing_130 ?_
  refine zs_ald hE dX3_tellRing_132 (fun v17 => ?_)
  refine zs_iconst hE (v := (1 : Int32)) (by decide) dX3_tellRing_133 ?_
  refine zs_icmp_ne hE 142 (by decide) dX3_tellRing_134 ?_ ?_
  · refine zs_bipush hE (v := (20 : Int32)) (by decide) dX3_tellRing_137 ?_
    refine zs_goto hE 144 (by decide) dX3_tellRing_139 ?_
    exact sm_X3_tellRing_J144 hE x0 x1 (20 : Int32) v15 (48 : Int32) x0 self25 hs25
  · refine zs_bipush hE (v := (25 : Int32)) (by decide) dX3_tellRing_142 ?_
    exact sm_X3_tellRing_J144 hE x0 x1 (25 : Int32) v15 (48 : Int32) x0 self25 hs25
theorem sm_X3_tellRing_J73 {x : ZX Int32} {K : ZK} (hE : zE x K cX3_tellRing RX3 "tellRing" 3 3 144 encI (Option.some Jvm.ClassFile.FieldType.int) []) (x0 : Nat) (x1 : Int32) (x2 : Int32) (self25 : Int32 → ZP Int32) (hs25 : ∀ v : Int32, zS x 25 [(0, va_rf (some x0)), (1, .int v)] [] (self25 v)) : zS x 73 [(0, va_rf (some x0)), (1, .int x1), (2, .int x2)] [] (s_X3_tellRing_J73 K x0 x1 x2 self25) := by
  unfold s_X3_tellRing_J73
  refine zs_aload_n hE 0 rfl rfl dX3_tellRing_73 ?_
  refine zs_getR hE (ci := 35) (k := 0) rfl (by decide) in_X3 (Or.inl q2829) (Or.inl rfl) dX3_tellRing_74 (fun v9 => ?_)
  refine zs_bipush hE (v := (18 : Int32)) (by decide) dX3_tellRing_77 ?_
  refine zs_ald hE dX3_tellRing_79 (fun v10 => ?_)
  refine zs_if_eq hE 149 (by decide) dX3_tellRing_80 ?_ ?_
  · refine zs_iinc hE 1 (v := (1 : Int32)) rfl (by decide) (by decide) (zcat_rf (some x0)) (lv' := [(0, va_rf (some x0)), (2, .int x2)]) rfl dX3_tellRing_149 ?_
    refine zs_goto hE 25 (by decide) dX3_tellRing_152 ?_
    refine zs_sub [1, 0] rfl ?_
    exact hs25 (x1 + (1 : Int32))
  · refine zs_aload_n hE 0 rfl rfl dX3_tellRing_83 ?_
    refine zs_getR hE (ci := 35) (k := 0) rfl (by decide) in_X3 (Or.inl q2829) (Or.inl rfl) dX3_tellRing_84 (fun v11 => ?_)
    refine zs_bipush hE (v := (19 : Int32)) (by decide) dX3_tellRing_87 ?_
    refine zs_ald hE dX3_tellRing_89 (fun v12 => ?_)
    refine zs_iload_n hE 2 rfl rfl dX3_tellRing_90 ?_
    refine zs_icmp_eq hE 97 (by decide) dX3_tellRing_91 ?_ ?_
    · refine zs_aload_n hE 0 rfl rfl dX3_tellRing_97 ?_
      refine zs_aload_n hE 0 rfl rfl dX3_tellRing_98 ?_
      refine zs_getR hE (ci := 35) (k := 0) rfl (by decide) in_X3 (Or.inl q2829) (Or.inl rfl) dX3_tellRing_99 (fun v13 => ?_)
      refine zs_bipush hE (v := (18 : Int32)) (by decide) dX3_tellRing_102 ?_
      refine zs_ald hE dX3_tellRing_104 (fun v14 => ?_)
      refine zs_iconst hE (v := (1 : Int32)) (by decide) dX3_tellRing_105 ?_
      refine zs_icmp_ne hE 114 (by decide) dX3_tellRing_106 ?_ ?_
      · refine zs_bipush hE (v := (84 : Int32)) (by decide) dX3_tellRing_109 ?_
        refine zs_goto hE 116 (by decide) dX3_tellRing_111 ?_
        refine zs_sub [0, 1] rfl ?_
        exact sm_X3_tellRing_J116 hE x0 x1 (84 : Int32) x0 self25 hs25
      · refine zs_bipush hE (v := (70 : Int32)) (by decide) dX3_tellRing_114 ?_
        refine zs_sub [0, 1] rfl ?_
        exact sm_X3_tellRing_J116 hE x0 x1 (70 : Int32) x0 self25 hs25
    · refine zs_goto hE 149 (by decide) dX3_tellRing_94 ?_
      refine zs_iinc hE 1 (v := (1 : Int32)) rfl (by decide) (by decide) (zcat_rf (some x0)) (lv' := [(0, va_rf (some x0)), (2, .int x2)]) rfl dX3_tellRing_149 ?_
      refine zs_goto hE 25 (by decide) dX3_tellRing_152 ?_
      refine zs_sub [1, 0] rfl ?_
      exact hs25 (x1 + (1 : Int32))
theorem sm_X3_tellRing_J52 {x : ZX Int32} {K : ZK} (hE : zE x K cX3_tellRing RX3 "tellRing" 3 3 144 encI (Option.some Jvm.ClassFile.FieldType.int) []) (x0 : Nat) (x1 : Int32) (x2 : Int32) (self25 : Int32 → ZP Int32) (hs25 : ∀ v : Int32, zS x 25 [(0, va_rf (some x0)), (1, .int v)] [] (self25 v)) : zS x 52 [(0, va_rf (some x0)), (1, .int x1), (2, .int x2)] [] (s_X3_tellRing_J52 K x0 x1 x2 self25) := by
  unfold s_X3_tellRing_J52
  refine zs_aload_n hE 0 rfl rfl dX3_tellRing_52 ?_
  refine zs_iload_n hE 2 rfl rfl dX3_tellRing_53 ?_
  refine zs_callV hE (As := [.int x2]) (encA := encV) (ci := 35) rfl (fun y0 => met_X3_writesNumber K y0 x2) q3251 q105 q3248 q3250 (zq qs93) hd_X3_writesNumber (by decide) (by decide) rfl (by simp [zcat_rf, zcat_i, zcat_j, zcat_f, zcat_d]) (fun z hz => by cases hz) dX3_tellRing_54 (fun _ => ?_)
  show zS _ 57 _ [] _
  refine zs_iload_n hE 2 rfl rfl dX3_tellRing_57 ?_
  refine zs_aload_n hE 0 rfl rfl dX3_tellRing_58 ?_
  refine zs_getR hE (ci := 35) (k := 0) rfl (by decide) in_X3 (Or.inl q2829) (Or.inl rfl) dX3_tellRing_59 (fun v7 => ?_)
  refine zs_iconst hE (v := (2 : Int32)) (by decide) dX3_tellRing_62 ?_
  refine zs_ald hE dX3_tellRing_63 (fun v8 => ?_)
  refine zs_icmp_ne hE 73 (by decide) dX3_tellRing_64 ?_ ?_
  · refine zs_aload_n hE 0 rfl rfl dX3_tellRing_67 ?_
    refine zs_bipush hE (v := (42 : Int32)) (by decide) dX3_tellRing_68 ?_
    refine zs_callV hE (As := [.int (42 : Int32)]) (encA := encV) (ci := 35) rfl (fun y0 => met_X3_writes K y0 (42 : Int32)) q3247 q105 q3244 q3246 (zq qs92) hd_X3_writes (by decide) (by decide) rfl (by simp [zcat_rf, zcat_i, zcat_j, zcat_f, zcat_d]) (fun z hz => by cases hz) dX3_tellRing_70 (fun _ => ?_)
    show zS _ 73 _ [] _
    exact sm_X3_tellRing_J73 hE x0 x1 x2 self25 hs25
  · exact sm_X3_tellRing_J73 hE x0 x1 x2 self25 hs25
theorem sm_X3_tellRing_B25 {x : ZX Int32} {K : ZK} (hE : zE x K cX3_tellRing RX3 "tellRing" 3 3 144 encI (Option.some Jvm.ClassFile.FieldType.int) []) (x0 : Nat) (self25 : Int32 → ZP Int32) (hs25 : ∀ v : Int32, zS x 25 [(0, va_rf (some x0)), (1, .int v)] [] (self25 v)) (x1 : Int32) : zS x 25 [(0, va_rf (some x0)), (1, .int x1)] [] (s_X3_tellRing_B25 K x0 self25 x1) := by
  unfold s_X3_tellRing_B25
  refine zs_iload_n hE 1 rfl rfl dX3_tellRing_25 ?_
  refine zs_aload_n hE 0 rfl rfl dX3_tellRing_26 ?_
  refine zs_getR hE (ci := 35) (k := 0) rfl (by decide) in_X3 (Or.inl q2829) (Or.inl rfl) dX3_tellRing_27 (fun v3 => ?_)
  refine zs_iconst hE (v := (1 : Int32)) (by decide) dX3_tellRing_30 ?_
  refine zs_ald hE dX3_tellRing_31 (fun v4 => ?_)
  refine zs_icmp_ge hE 155 (by decide) dX3_tellRing_32 ?_ ?_
  · refine zs_aload_n hE 0 rfl rfl dX3_tellRing_155 ?_
    refine zs_getI hE (ci := 35) (k := 25) rfl (by decide) in_X3 (Or.inl q2854) (Or.inl rfl) dX3_tellRing_156 (fun v5 => ?_)
    exact zs_iret hE dX3_tellRing_159
  · refine zs_aload_n hE 0 rfl rfl dX3_tellRing_35 ?_
    refine zs_iload_n hE 1 rfl rfl dX3_tellRing_36 ?_
    refine zs_iconst hE (v := (0 : Int32)) (by decide) dX3_tellRing_37 ?_
    refine zs_callV hE (As := [.int x1, .int (0 : Int32)]) (encA := encI) (ci := 35) rfl (fun y0 => met_X3_sv K y0 x1 (0 : Int32)) q2945 q105 q2942 q2944 (zq qs50) hd_X3_sv (by decide) (by decide) rfl (by simp [zcat_rf, zcat_i, zcat_j, zcat_f, zcat_d]) (fun z hz => by cases hz) dX3_tellRing_38 (fun r6 => ?_)
    show zS _ 41 _ [.int r6] _
    refine zs_istore_n hE (i := 2) (q := 2) rfl (by decide) (rfl) (lv' := [(0, va_rf (some x0)), (1, .int x1)]) rfl dX3_tellRing_41 ?_
    refine zs_iload_n hE 2 rfl rfl dX3_tellRing_42 ?_
    refine zs_if_le hE 52 (by decide) dX3_tellRing_43 ?_ ?_
    · refine zs_sub [1, 2, 0] rfl ?_
      exact sm_X3_tellRing_J52 hE x0 x1 r6 self25 hs25
    · refine zs_aload_n hE 1 rfl rfl dX3_tellRing_46 ?_
      refine zs_bipush hE (v := (32 : Int32)) (by decide) dX3_tellRing_47 ?_
      refine zs_callV hE (As := [.int (32 : Int32)]) (encA := encV) (ci := 35) rfl (fun y0 => met_X3_writes K y0 (32 : Int32)) q3247 q105 q3244 q3246 (zq qs92) hd_X3_writes (by decide) (by decide) rfl (by simp [zcat_rf, zcat_i, zcat_j, zcat_f, zcat_d]) (fun z hz => by cases hz) dX3_tellRing_49 (fun _ => ?_)
      show zS _ 52 _ [] _
      refine zs_sub [1, 2, 0] rfl ?_
      exact sm_X3_tellRing_J52 hE x0 x1 r6 self25 hs25
theorem sm_X3_tellRing_L25 {x : ZX Int32} {K : ZK} (hE : zE x K cX3_tellRing RX3 "tellRing" 3 3 144 encI (Option.some Jvm.ClassFile.FieldType.int) []) (x0 : Nat) (v : Int32) : zS x 25 [(0, va_rf (some x0)), (1, .int v)] [] (s_X3_tellRing_L25 K x0 v) := by
  unfold s_X3_tellRing_L25
  exact zs_loop (lvf := fun v => [(0, va_rf (some x0)), (1, .int v)]) (fun self25 hs25 v => sm_X3_tellRing_B25 hE x0 self25 hs25 v) v
theorem sm_X3_tellRing {x : ZX Int32} {K : ZK} (hE : zE x K cX3_tellRing RX3 "tellRing" 3 3 144 encI (Option.some Jvm.ClassFile.FieldType.int) []) (this : Nat) : zS x 0 [(0, va_rf (some this))] [] (s_X3_tellRing K this) := by
  unfold s_X3_tellRing
  refine zs_aload_n hE 0 rfl rfl dX3_tellRing_0 ?_
  refine zs_iconst hE (v := (0 : Int32)) (by decide) dX3_tellRing_1 ?_
  refine zs_putI hE (ci := 35) (k := 5) rfl (by decide) in_X3 (Or.inl q2834) (Or.inl rfl) (Or.inl rfl) (fun h => nomatch h) rfl dX3_tellRing_2 ?_
  refine zs_aload_n hE 0 rfl rfl dX3_tellRing_5 ?_
  refine zs_iconst hE (v := (0 : Int32)) (by decide) dX3_tellRing_6 ?_
  refine zs_putI hE (ci := 35) (k := 25) rfl (by decide) in_X3 (Or.inl q2854) (Or.inl rfl) (Or.inl rfl) (fun h => nomatch h) rfl dX3_tellRing_7 ?_
  refine zs_aload_n hE 0 rfl rfl dX3_tellRing_10 ?_
  refine zs_getR hE (ci := 35) (k := 0) rfl (by decide) in_X3 (Or.inl q2829) (Or.inl rfl) dX3_tellRing_11 (fun v1 => ?_)
  refine zs_iconst hE (v := (1 : Int32)) (by decide) dX3_tellRing_14 ?_
  refine zs_ald hE dX3_tellRing_15 (fun v2 => ?_)
  refine zs_if_ne hE 23 (by decide) dX3_tellRing_16 ?_ ?_
  · refine zs_aload_n hE 0 rfl rfl dX3_tellRing_19 ?_
    refine zs_callV hE (As := []) (encA := encV) (ci := 35) rfl (fun y0 => met_X3_writesNobody K y0) q3243 q105 q3240 q3242 (zq qs91) hd_X3_writesNobody (by decide) (by decide) rfl (by simp [zcat_rf, zcat_i, zcat_j, zcat_f, zcat_d]) (fun z hz => by cases hz) dX3_tellRing_20 (fun _ => ?_)
    show zS _ 23 _ [] _
    refine zs_iconst hE (v := (0 : Int32)) (by decide) dX3_tellRing_23 ?_
    refine zs_istore_n hE (i := 1) (q := 1) rfl (by decide) (zcat_rf (some this)) (lv' := [(0, va_rf (some this))]) rfl dX3_tellRing_24 ?_
    refine zs_sub [1, 0] rfl ?_
    exact sm_X3_tellRing_L25 hE this (0 : Int32)
  · refine zs_iconst hE (v := (0 : Int32)) (by decide) dX3_tellRing_23 ?_
    refine zs_istore_n hE (i := 1) (q := 1) rfl (by decide) (zcat_rf (some this)) (lv' := [(0, va_rf (some this))]) rfl dX3_tellRing_24 ?_
    refine zs_sub [1, 0] rfl ?_
    exact sm_X3_tellRing_L25 hE this (0 : Int32)
theorem hd_X3_tellRing : (yX3_tellRing).cls ≠ "java/lang/invoke/MethodHandle" ∧ (yX3_tellRing).cls ≠ "java/lang/invoke/VarHandle" ∧ (parseMethodDescriptor (yX3_tellRing).desc).map (fun d => d.parameters.length) = some 0 := by decide +kernel
theorem met_X3_tellRing (K : ZK) (this : Nat) : zMeth K yX3_tellRing (zws yX3_tellRing cX3_tellRing 3 (Option.some Jvm.ClassFile.FieldType.int)) 3 144 [.ref this] encI (s_X3_tellRing K this) :=
  fun l G hl hK => zmet_of hl hK (by decide +kernel) rfl rfl (by simp [zsl_nil, zsl_rf, zsl_r, zsl_i, zsl_j, zsl_f, zsl_d]) (fun x hE => by simp only [zla_nil, zla_rf, zla_r, zla_i, zla_j, zla_f, zla_d, Nat.reduceAdd]; exact sm_X3_tellRing hE this)
theorem sm_X3_tellQueue_J63 {x : ZX Int32} {K : ZK} (hE : zE x K cX3_tellQueue RX3 "tellQueue" 4 3 145 encI (Option.some Jvm.ClassFile.FieldType.int) []) (x0 : Nat) (x2 : Int32) (x3 : Int32) (self43 : Int32 → ZP Int32) (hs43 : ∀ v : Int32, zS x 43 [(0, va_rf (some x0)), (2, .int x2), (3, .int v)] [] (self43 v)) : zS x 63 [(0, va_rf (some x0)), (2, .int x2), (3, .int x3)] [] (s_X3_tellQueue_J63 K x0 x2 x3 self43) := by
  unfold s_X3_tellQueue_J63
  refine zs_aload_n hE 0 rfl rfl dX3_tellQueue_63 ?_
  refine zs_bipush hE (v := (35 : Int32)) (by decide) dX3_tellQueue_64 ?_
  refine zs_callV hE (As := [.int (35 : Int32)]) (encA := encV) (ci := 35) rfl (fun y0 => met_X3_writes K y0 (35 : Int32)) q3247 q105 q3244 q3246 (zq qs92) hd_X3_writes (by decide) (by decide) rfl (by simp [zcat_rf, zcat_i, zcat_j, zcat_f, zcat_d]) (fun z hz => by cases hz) dX3_tellQueue_66 (fun _ => ?_)
  show zS _ 69 _ [] _
  refine zs_aload_n hE 0 rfl rfl dX3_tellQueue_69 ?_
  refine zs_aload_n hE 0 rfl rfl dX3_tellQueue_70 ?_
  refine zs_iload_n hE 1 rfl rfl dX3_tellQueue_71 ?_
  refine zs_iload_n hE 2 rfl rfl dX3_tellQueue_72 ?_
  refine zs_iconst hE (v := (0 : Int32)) (by decide) dX3_tellQueue_73 ?_
  refine zs_callV hE (As := [.int x2, .int x3, .int (0 : Int32)]) (encA := encI) (ci := 35) rfl (fun y0 => met_X3_qv K y0 x2 x3 (0 : Int32)) q3001 q105 q2998 q3000 (zq qs62) hd_X3_qv (by decide) (by decide) rfl (by simp [zcat_rf, zcat_i, zcat_j, zcat_f, zcat_d]) (fun z hz => by cases hz) dX3_tellQueue_74 (fun r5 => ?_)
  show zS _ 77 _ [.int r5, va_rf (some x0)] _
  refine zs_callV hE (As := [.int r5]) (encA := encV) (ci := 35) rfl (fun y0 => met_X3_writesNumber K y0 r5) q3251 q105 q3248 q3250 (zq qs93) hd_X3_writesNumber (by decide) (by decide) rfl (by simp [zcat_rf, zcat_i, zcat_j, zcat_f, zcat_d]) (fun z hz => by cases hz) dX3_tellQueue_77 (fun _ => ?_)
  show zS _ 80 _ [] _
  refine zs_aload_n hE 0 rfl rfl dX3_tellQueue_80 ?_
  refine zs_bipush hE (v := (47 : Int32)) (by decide) dX3_tellQueue_81 ?_
  refine zs_callV hE (As := [.int (47 : Int32)]) (encA := encV) (ci := 35) rfl (fun y0 => met_X3_writes K y0 (47 : Int32)) q3247 q105 q3244 q3246 (zq qs92) hd_X3_writes (by decide) (by decide) rfl (by simp [zcat_rf, zcat_i, zcat_j, zcat_f, zcat_d]) (fun z hz => by cases hz) dX3_tellQueue_83 (fun _ => ?_)
  show zS _ 86 _ [] _
  refine zs_aload_n hE 0 rfl rfl dX3_tellQueue_86 ?_
  refine zs_bipush hE (v := (48 : Int32)) (by decide) dX3_tellQueue_87 ?_
  refine zs_aload_n hE 0 rfl rfl dX3_tellQueue_89 ?_
  refine zs_iload_n hE 1 rfl rfl dX3_tellQueue_90 ?_
  refine zs_iload_n hE 2 rfl rfl dX3_tellQueue_91 ?_
  refine zs_iconst hE (v := (2 : Int32)) (by decide) dX3_tellQueue_92 ?_
  refine zs_callV hE (As := [.int x2, .int x3, .int (2 : Int32)]) (encA := encI) (ci := 35) rfl (fun y0 => met_X3_qv K y0 x2 x3 (2 : Int32)) q3001 q105 q2998 q3000 (zq qs62) hd_X3_qv (by decide) (by decide) rfl (by simp [zcat_rf, zcat_i, zcat_j, zcat_f, zcat_d]) (fun z hz => by cases hz) dX3_tellQueue_93 (fun r6 => ?_)
  show zS _ 96 _ [.int r6, .int (48 : Int32), va_rf (some x0)] _
  refine zs_iadd hE dX3_tellQueue_96 ?_
  refine zs_callV hE (As := [.int ((48 : Int32) + r6)]) (encA := encV) (ci := 35) rfl (fun y0 => met_X3_writes K y0 ((48 : Int32) + r6)) q3247 q105 q3244 q3246 (zq qs92) hd_X3_writes (by decide) (by decide) rfl (by simp [zcat_rf, zcat_i, zcat_j, zcat_f, zcat_d]) (fun z hz => by cases hz) dX3_tellQueue_97 (fun _ => ?_)
  show zS _ 100 _ [] _
  refine zs_iinc hE 2 (v := (1 : Int32)) rfl (by decide) (by decide) (rfl) (lv' := [(0, va_rf (some x0)), (2, .int x2)]) rfl dX3_tellQueue_100 ?_
  refine zs_goto hE 43 (by decide) dX3_tellQueue_103 ?_
  refine zs_sub [1, 2, 0] rfl ?_
  exact hs43 (x3 + (1 : Int32))
theorem sm_X3_tellQueue_B43 {x : ZX Int32} {K : ZK} (hE : zE x K cX3_tellQueue RX3 "tellQueue" 4 3 145 encI (Option.some Jvm.ClassFile.FieldType.int) []) (x0 : Nat) (x2 : Int32) (self43 : Int32 → ZP Int32) (hs43 : ∀ v : Int32, zS x 43 [(0, va_rf (some x0)), (2, .int x2), (3, .int v)] [] (self43 v)) (x3 : Int32) : zS x 43 [(0, va_rf (some x0)), (2, .int x2), (3, .int x3)] [] (s_X3_tellQueue_B43 K x0 x2 self43 x3) := by
  unfold s_X3_tellQueue_B43
  refine zs_iload_n hE 2 rfl rfl dX3_tellQueue_43 ?_
  refine zs_aload_n hE 0 rfl rfl dX3_tellQueue_44 ?_
  refine zs_iload_n hE 1 rfl rfl dX3_tellQueue_45 ?_
  refine zs_iconst hE (v := (1 : Int32)) (by decide) dX3_tellQueue_46 ?_
  refine zs_callV hE (As := [.int x2, .int (1 : Int32)]) (encA := encI) (ci := 35) rfl (fun y0 => met_X3_sv K y0 x2 (1 : Int32)) q2945 q105 q2942 q2944 (zq qs50) hd_X3_sv (by decide) (by decide) rfl (by simp [zcat_rf, zcat_i, zcat_j, zcat_f, zcat_d]) (fun z hz => by cases hz) dX3_tellQueue_47 (fun r3 => ?_)
  show zS _ 50 _ [.int r3, .int x3] _
  refine zs_icmp_ge hE 106 (by decide) dX3_tellQueue_50 ?_ ?_
  · refine zs_aload_n hE 0 rfl rfl dX3_tellQueue_106 ?_
    refine zs_getI hE (ci := 35) (k := 25) rfl (by decide) in_X3 (Or.inl q2854) (Or.inl rfl) dX3_tellQueue_107 (fun v4 => ?_)
    exact zs_iret hE dX3_tellQueue_110
  · refine zs_iload_n hE 2 rfl rfl dX3_tellQueue_53 ?_
    refine zs_if_le hE 63 (by decide) dX3_tellQueue_54 ?_ ?_
    · exact sm_X3_tellQueue_J63 hE x0 x2 x3 self43 hs43
    · refine zs_aload_n hE 0 rfl rfl dX3_tellQueue_57 ?_
      refine zs_bipush hE (v := (32 : Int32)) (by decide) dX3_tellQueue_58 ?_
      refine zs_callV hE (As := [.int (32 : Int32)]) (encA := encV) (ci := 35) rfl (fun y0 => met_X3_writes K y0 (32 : Int32)) q3247 q105 q3244 q3246 (zq qs92) hd_X3_writes (by decide) (by decide) rfl (by simp [zcat_rf, zcat_i, zcat_j, zcat_f, zcat_d]) (fun z hz => by cases hz) dX3_tellQueue_60 (fun _ => ?_)
      show zS _ 63 _ [] _
      exact sm_X3_tellQueue_J63 hE x0 x2 x3 self43 hs43
theorem sm_X3_tellQueue_L43 {x : ZX Int32} {K : ZK} (hE : zE x K cX3_tellQueue RX3 "tellQueue" 4 3 145 encI (Option.some Jvm.ClassFile.FieldType.int) []) (x0 : Nat) (x2 : Int32) (v : Int32) : zS x 43 [(0, va_rf (some x0)), (2, .int x2), (3, .int v)] [] (s_X3_tellQueue_L43 K x0 x2 v) := by
  unfold s_X3_tellQueue_L43
  exact zs_loop (lvf := fun v => [(0, va_rf (some x0)), (2, .int x2), (3, .int v)]) (fun self43 hs43 v => sm_X3_tellQueue_B43 hE x0 x2 self43 hs43 v) v
theorem sm_X3_tellQueue {x : ZX Int32} {K : ZK} (hE : zE x K cX3_tellQueue RX3 "tellQueue" 4 3 145 encI (Option.some Jvm.ClassFile.FieldType.int) []) (this : Nat) (a1 : Int32) : zS x 0 [(0, va_rf (some this)), (1, .int a1)] [] (s_X3_tellQueue K this a1) := by
  unfold s_X3_tellQueue
  refine zs_aload_n hE 0 rfl rfl dX3_tellQueue_0 ?_
  refine zs_iconst hE (v := (0 : Int32)) (by decide) dX3_tellQueue_1 ?_
  refine zs_putI hE (ci := 35) (k := 5) rfl (by decide) in_X3 (Or.inl q2834) (Or.inl rfl) (Or.inl rfl) (fun h => nomatch h) rfl dX3_tellQueue_2 ?_
  refine zs_aload_n hE 0 rfl rfl dX3_tellQueue_5 ?_
  refine zs_iload_n hE 1 rfl rfl dX3_tellQueue_6 ?_
  refine zs_callV hE (As := [.int a1]) (encA := encI) (ci := 35) rfl (fun y0 => met_X3_placeOf K y0 a1) q2941 q105 q2938 q2940 (zq qs49) hd_X3_placeOf (by decide) (by decide) rfl (by simp [zcat_rf, zcat_i, zcat_j, zcat_f, zcat_d]) (fun z hz => by cases hz) dX3_tellQueue_7 (fun r1 => ?_)
  show zS _ 10 _ [.int r1] _
  refine zs_istore_n hE (i := 2) (q := 2) rfl (by decide) (rfl) (lv' := [(0, va_rf (some this)), (1, .int a1)]) rfl dX3_tellQueue_10 ?_
  refine zs_iload_n hE 0 rfl rfl dX3_tellQueue_11 ?_
  refine zs_if_ge hE 21 (by decide) dX3_tellQueue_12 ?_ ?_
  · refine zs_aload_n hE 1 rfl rfl dX3_tellQueue_21 ?_
    refine zs_iconst hE (v := (0 : Int32)) (by decide) dX3_tellQueue_22 ?_
    refine zs_putI hE (ci := 35) (k := 25) rfl (by decide) in_X3 (Or.inl q2854) (Or.inl rfl) (Or.inl rfl) (fun h => nomatch h) rfl dX3_tellQueue_23 ?_
    refine zs_aload_n hE 1 rfl rfl dX3_tellQueue_26 ?_
    refine zs_iload_n hE 0 rfl rfl dX3_tellQueue_27 ?_
    refine zs_iconst hE (v := (1 : Int32)) (by decide) dX3_tellQueue_28 ?_
    refine zs_callV hE (As := [.int r1, .int (1 : Int32)]) (encA := encI) (ci := 35) rfl (fun y0 => met_X3_sv K y0 r1 (1 : Int32)) q2945 q105 q2942 q2944 (zq qs50) hd_X3_sv (by decide) (by decide) rfl (by simp [zcat_rf, zcat_i, zcat_j, zcat_f, zcat_d]) (fun z hz => by cases hz) dX3_tellQueue_29 (fun r2 => ?_)
    show zS _ 32 _ [.int r2] _
    refine zs_if_ne hE 41 (by decide) dX3_tellQueue_32 ?_ ?_
    · refine zs_aload_n hE 1 rfl rfl dX3_tellQueue_35 ?_
      refine zs_bipush hE (v := (45 : Int32)) (by decide) dX3_tellQueue_36 ?_
      refine zs_callV hE (As := [.int (45 : Int32)]) (encA := encV) (ci := 35) rfl (fun y0 => met_X3_writes K y0 (45 : Int32)) q3247 q105 q3244 q3246 (zq qs92) hd_X3_writes (by decide) (by decide) rfl (by simp [zcat_rf, zcat_i, zcat_j, zcat_f, zcat_d]) (fun z hz => by cases hz) dX3_tellQueue_38 (fun _ => ?_)
      show zS _ 41 _ [] _
      refine zs_iconst hE (v := (0 : Int32)) (by decide) dX3_tellQueue_41 ?_
      refine zs_istore_n hE (i := 3) (q := 3) rfl (by decide) (rfl) (lv' := [(2, .int r1), (0, va_rf (some this)), (1, .int a1)]) rfl dX3_tellQueue_42 ?_
      refine zs_sub [2, 1, 0] rfl ?_
      exact sm_X3_tellQueue_L43 hE this r1 (0 : Int32)
    · refine zs_iconst hE (v := (0 : Int32)) (by decide) dX3_tellQueue_41 ?_
      refine zs_istore_n hE (i := 3) (q := 3) rfl (by decide) (rfl) (lv' := [(2, .int r1), (0, va_rf (some this)), (1, .int a1)]) rfl dX3_tellQueue_42 ?_
      refine zs_sub [2, 1, 0] rfl ?_
      exact sm_X3_tellQueue_L43 hE this r1 (0 : Int32)
  · refine zs_aload_n hE 1 rfl rfl dX3_tellQueue_15 ?_
    refine zs_iconst hE (v := (1 : Int32)) (by decide) dX3_tellQueue_16 ?_
    refine zs_callV hE (As := [.int (1 : Int32)]) (encA := encI) (ci := 35) rfl (fun y0 => met_X3_no K y0 (1 : Int32)) q2953 q105 q2950 q2952 (zq qs52) hd_X3_no (by decide) (by decide) rfl (by simp [zcat_rf, zcat_i, zcat_j, zcat_f, zcat_d]) (fun z hz => by cases hz) dX3_tellQueue_17 (fun r7 => ?_)
    show zS _ 20 _ [.int r7] _
    exact zs_iret hE dX3_tellQueue_20
theorem hd_X3_tellQueue : (yX3_tellQueue).cls ≠ "java/lang/invoke/MethodHandle" ∧ (yX3_tellQueue).cls ≠ "java/lang/invoke/VarHandle" ∧ (parseMethodDescriptor (yX3_tellQueue).desc).map (fun d => d.parameters.length) = some 1 := by decide +kernel
theorem met_X3_tellQueue (K : ZK) (this : Nat) (a1 : Int32) : zMeth K yX3_tellQueue (zws yX3_tellQueue cX3_tellQueue 4 (Option.some Jvm.ClassFile.FieldType.int)) 3 145 [.ref this, .int a1] encI (s_X3_tellQueue K this a1) :=
  fun l G hl hK => zmet_of hl hK (by decide +kernel) rfl rfl (by simp [zsl_nil, zsl_rf, zsl_r, zsl_i, zsl_j, zsl_f, zsl_d]) (fun x hE => by simp only [zla_nil, zla_rf, zla_r, zla_i, zla_j, zla_f, zla_d, Nat.reduceAdd]; exact sm_X3_tellQueue hE this a1)
theorem sm_X3_character_J20 {x : ZX Int32} {K : ZK} (hE : zE x K cX3_character RX3 "character" 2 2 122 encI (Option.some Jvm.ClassFile.FieldType.char) []) (x0 : Nat) (x1 : Int32) (t0 : Int32) (t1 : Nat) : zS x 20 [(0, va_rf (some x0)), (1, .int x1)] [.int t0, va_rf (some t1)] (s_X3_character_J20 K x0 x1 t0 t1) := by
  unfold s_X3_character_J20
  refine zs_putI hE (ci := 35) (k := 5) rfl (by decide) in_X3 (Or.inl q2834) (Or.inl rfl) (Or.inl rfl) (fun h => nomatch h) rfl dX3_character_20 ?_
  refine zs_aload_n hE 0 rfl rfl dX3_character_23 ?_
  refine zs_getI hE (ci := 35) (k := 5) rfl (by decide) in_X3 (Or.inl q2834) (Or.inl rfl) dX3_character_24 (fun v3 => ?_)
  refine zs_if_le hE 35 (by decide) dX3_character_27 ?_ ?_
  · refine zs_aload_n hE 0 rfl rfl dX3_character_35 ?_
    refine zs_getR hE (ci := 35) (k := 24) rfl (by decide) in_X3 (Or.inl q2853) (Or.inl rfl) dX3_character_36 (fun v4 => ?_)
    refine zs_iload_n hE 1 rfl rfl dX3_character_39 ?_
    refine zs_ald hE dX3_character_40 (fun v5 => ?_)
    refine zs_i2c hE dX3_character_41 ?_
    exact zs_zretA hE dX3_character_42
  · refine zs_bipush hE (v := (32 : Int32)) (by decide) dX3_character_30 ?_
    refine zs_goto hE 42 (by decide) dX3_character_32 ?_
    exact zs_zretA hE dX3_character_42
theorem sm_X3_character {x : ZX Int32} {K : ZK} (hE : zE x K cX3_character RX3 "character" 2 2 122 encI (Option.some Jvm.ClassFile.FieldType.char) []) (this : Nat) (a1 : Int32) : zS x 0 [(0, va_rf (some this)), (1, .int a1)] [] (s_X3_character K this a1) := by
  unfold s_X3_character
  refine zs_aload_n hE 0 rfl rfl dX3_character_0 ?_
  refine zs_iload_n hE 1 rfl rfl dX3_character_1 ?_
  refine zs_iconst hE (v := (0 : Int32)) (by decide) dX3_character_2 ?_
  refine zs_aload_n hE 0 rfl rfl dX3_character_3 ?_
  refine zs_getI hE (ci := 35) (k := 25) rfl (by decide) in_X3 (Or.inl q2854) (Or.inl rfl) dX3_character_4 (fun v1 => ?_)
  refine zs_iconst hE (v := (1 : Int32)) (by decide) dX3_character_7 ?_
  refine zs_isub hE dX3_character_8 ?_
  refine zs_callS hE (As := [.int a1, .int (0 : Int32), .int (v1 - (1 : Int32))]) (encA := encI) (met_X3_in K a1 (0 : Int32) (v1 - (1 : Int32))) q2933 q105 q2931 q2932 hd_X3_in (by decide) (by decide) rfl (by simp [zcat_rf, zcat_i, zcat_j, zcat_f, zcat_d]) (fun z hz => by cases hz) dX3_character_9 (fun r2 => ?_)
  show zS _ 12 _ [.int r2, va_rf (some this)] _
  refine zs_if_eq hE 19 (by decide) dX3_character_12 ?_ ?_
  · refine zs_iconst hE (v := (1 : Int32)) (by decide) dX3_character_19 ?_
    exact sm_X3_character_J20 hE this a1 (1 : Int32) this
  · refine zs_iconst hE (v := (0 : Int32)) (by decide) dX3_character_15 ?_
    refine zs_goto hE 20 (by decide) dX3_character_16 ?_
    exact sm_X3_character_J20 hE this a1 (0 : Int32) this
theorem hd_X3_character : (yX3_character).cls ≠ "java/lang/invoke/MethodHandle" ∧ (yX3_character).cls ≠ "java/lang/invoke/VarHandle" ∧ (parseMethodDescriptor (yX3_character).desc).map (fun d => d.parameters.length) = some 1 := by decide +kernel
theorem met_X3_character (K : ZK) (this : Nat) (a1 : Int32) : zMeth K yX3_character (zws yX3_character cX3_character 2 (Option.some Jvm.ClassFile.FieldType.char)) 2 122 [.ref this, .int a1] encI (s_X3_character K this a1) :=
  fun l G hl hK => zmet_of hl hK (by decide +kernel) rfl rfl (by simp [zsl_nil, zsl_rf, zsl_r, zsl_i, zsl_j, zsl_f, zsl_d]) (fun x hE => by simp only [zla_nil, zla_rf, zla_r, zla_i, zla_j, zla_f, zla_d, Nat.reduceAdd]; exact sm_X3_character hE this a1)
theorem sm_X3_account {x : ZX Int32} {K : ZK} (hE : zE x K cX3_account RX3 "account" 2 2 122 encI (Option.some Jvm.ClassFile.FieldType.int) []) (this : Nat) (a1 : Int32) : zS x 0 [(0, va_rf (some this)), (1, .int a1)] [] (s_X3_account K this a1) := by
  unfold s_X3_account
  refine zs_aload_n hE 0 rfl rfl dX3_account_0 ?_
  refine zs_iconst hE (v := (0 : Int32)) (by decide) dX3_account_1 ?_
  refine zs_putI hE (ci := 35) (k := 5) rfl (by decide) in_X3 (Or.inl q2834) (Or.inl rfl) (Or.inl rfl) (fun h => nomatch h) rfl dX3_account_2 ?_
  refine zs_iload_n hE 1 rfl rfl dX3_account_5 ?_
  refine zs_iconst hE (v := (0 : Int32)) (by decide) dX3_account_6 ?_
  refine zs_bipush hE (v := (17 : Int32)) (by decide) dX3_account_7 ?_
  refine zs_callS hE (As := [.int a1, .int (0 : Int32), .int (17 : Int32)]) (encA := encI) (met_X3_in K a1 (0 : Int32) (17 : Int32)) q2933 q105 q2931 q2932 hd_X3_in (by decide) (by decide) rfl (by simp [zcat_rf, zcat_i, zcat_j, zcat_f, zcat_d]) (fun z hz => by cases hz) dX3_account_9 (fun r1 => ?_)
  show zS _ 12 _ [.int r1] _
  refine zs_if_eq hE 22 (by decide) dX3_account_12 ?_ ?_
  · refine zs_iload_n hE 1 rfl rfl dX3_account_22 ?_
    refine zs_bipush hE (v := (18 : Int32)) (by decide) dX3_account_23 ?_
    refine zs_icmp_ne hE 33 (by decide) dX3_account_25 ?_ ?_
    · refine zs_aload_n hE 0 rfl rfl dX3_account_28 ?_
      refine zs_getI hE (ci := 35) (k := 20) rfl (by decide) in_X3 (Or.inl q2849) (Or.inl rfl) dX3_account_29 (fun v2 => ?_)
      exact zs_iret hE dX3_account_32
    · refine zs_iload_n hE 1 rfl rfl dX3_account_33 ?_
      refine zs_bipush hE (v := (19 : Int32)) (by decide) dX3_account_34 ?_
      refine zs_icmp_ne hE 46 (by decide) dX3_account_36 ?_ ?_
      · refine zs_aload_n hE 0 rfl rfl dX3_account_39 ?_
        refine zs_getI hE (ci := 35) (k := 6) rfl (by decide) in_X3 (Or.inl q2835) (Or.inl rfl) dX3_account_40 (fun v3 => ?_)
        refine zs_goto hE 51 (by decide) dX3_account_43 ?_
        exact zs_iret hE dX3_account_51
      · refine zs_aload_n hE 0 rfl rfl dX3_account_46 ?_
        refine zs_iconst hE (v := (1 : Int32)) (by decide) dX3_account_47 ?_
        refine zs_callV hE (As := [.int (1 : Int32)]) (encA := encI) (ci := 35) rfl (fun y0 => met_X3_no K y0 (1 : Int32)) q2953 q105 q2950 q2952 (zq qs52) hd_X3_no (by decide) (by decide) rfl (by simp [zcat_rf, zcat_i, zcat_j, zcat_f, zcat_d]) (fun z hz => by cases hz) dX3_account_48 (fun r4 => ?_)
        show zS _ 51 _ [.int r4] _
        exact zs_iret hE dX3_account_51
  · refine zs_aload_n hE 0 rfl rfl dX3_account_15 ?_
    refine zs_getR hE (ci := 35) (k := 0) rfl (by decide) in_X3 (Or.inl q2829) (Or.inl rfl) dX3_account_16 (fun v5 => ?_)
    refine zs_iload_n hE 1 rfl rfl dX3_account_19 ?_
    refine zs_ald hE dX3_account_20 (fun v6 => ?_)
    exact zs_iret hE dX3_account_21
theorem hd_X3_account : (yX3_account).cls ≠ "java/lang/invoke/MethodHandle" ∧ (yX3_account).cls ≠ "java/lang/invoke/VarHandle" ∧ (parseMethodDescriptor (yX3_account).desc).map (fun d => d.parameters.length) = some 1 := by decide +kernel
theorem met_X3_account (K : ZK) (this : Nat) (a1 : Int32) : zMeth K yX3_account (zws yX3_account cX3_account 2 (Option.some Jvm.ClassFile.FieldType.int)) 2 122 [.ref this, .int a1] encI (s_X3_account K this a1) :=
  fun l G hl hK => zmet_of hl hK (by decide +kernel) rfl rfl (by simp [zsl_nil, zsl_rf, zsl_r, zsl_i, zsl_j, zsl_f, zsl_d]) (fun x hE => by simp only [zla_nil, zla_rf, zla_r, zla_i, zla_j, zla_f, zla_d, Nat.reduceAdd]; exact sm_X3_account hE this a1)
theorem sm_X3_meanDelay_J15 {x : ZX UInt64} {K : ZK} (hE : zE x K cX3_meanDelay RX3 "meanDelay" 1 1 100 encD (Option.some Jvm.ClassFile.FieldType.double) []) (x0 : Nat) (t0 : Int32) (t1 : Nat) : zS x 15 [(0, va_rf (some x0))] [.int t0, va_rf (some t1)] (s_X3_meanDelay_J15 K x0 t0 t1) := by
  unfold s_X3_meanDelay_J15
  refine zs_putI hE (ci := 35) (k := 5) rfl (by decide) in_X3 (Or.inl q2834) (Or.inl rfl) (Or.inl rfl) (fun h => nomatch h) rfl dX3_meanDelay_15 ?_
  refine zs_aload_n hE 0 rfl rfl dX3_meanDelay_18 ?_
  refine zs_getI hE (ci := 35) (k := 5) rfl (by decide) in_X3 (Or.inl q2834) (Or.inl rfl) dX3_meanDelay_19 (fun v3 => ?_)
  refine zs_if_le hE 29 (by decide) dX3_meanDelay_22 ?_ ?_
  · refine zs_aload_n hE 0 rfl rfl dX3_meanDelay_29 ?_
    refine zs_getR hE (ci := 35) (k := 0) rfl (by decide) in_X3 (Or.inl q2829) (Or.inl rfl) dX3_meanDelay_30 (fun v4 => ?_)
    refine zs_bipush hE (v := (13 : Int32)) (by decide) dX3_meanDelay_33 ?_
    refine zs_ald hE dX3_meanDelay_35 (fun v5 => ?_)
    refine zs_i2d hE dX3_meanDelay_36 ?_
    refine zs_aload_n hE 0 rfl rfl dX3_meanDelay_37 ?_
    refine zs_getR hE (ci := 35) (k := 0) rfl (by decide) in_X3 (Or.inl q2829) (Or.inl rfl) dX3_meanDelay_38 (fun v6 => ?_)
    refine zs_iconst hE (v := (5 : Int32)) (by decide) dX3_meanDelay_41 ?_
    refine zs_ald hE dX3_meanDelay_42 (fun v7 => ?_)
    refine zs_i2d hE dX3_meanDelay_43 ?_
    refine zs_ddiv hE dX3_meanDelay_44 ?_
    exact zs_dret hE dX3_meanDelay_45
  · refine zs_dconst0 hE dX3_meanDelay_25 ?_
    refine zs_goto hE 45 (by decide) dX3_meanDelay_26 ?_
    exact zs_dret hE dX3_meanDelay_45
theorem sm_X3_meanDelay {x : ZX UInt64} {K : ZK} (hE : zE x K cX3_meanDelay RX3 "meanDelay" 1 1 100 encD (Option.some Jvm.ClassFile.FieldType.double) []) (this : Nat) : zS x 0 [(0, va_rf (some this))] [] (s_X3_meanDelay K this) := by
  unfold s_X3_meanDelay
  refine zs_aload_n hE 0 rfl rfl dX3_meanDelay_0 ?_
  refine zs_aload_n hE 0 rfl rfl dX3_meanDelay_1 ?_
  refine zs_getR hE (ci := 35) (k := 0) rfl (by decide) in_X3 (Or.inl q2829) (Or.inl rfl) dX3_meanDelay_2 (fun v1 => ?_)
  refine zs_iconst hE (v := (5 : Int32)) (by decide) dX3_meanDelay_5 ?_
  refine zs_ald hE dX3_meanDelay_6 (fun v2 => ?_)
  refine zs_if_ne hE 14 (by decide) dX3_meanDelay_7 ?_ ?_
  · refine zs_iconst hE (v := (1 : Int32)) (by decide) dX3_meanDelay_10 ?_
    refine zs_goto hE 15 (by decide) dX3_meanDelay_11 ?_
    exact sm_X3_meanDelay_J15 hE this (1 : Int32) this
  · refine zs_iconst hE (v := (0 : Int32)) (by decide) dX3_meanDelay_14 ?_
    exact sm_X3_meanDelay_J15 hE this (0 : Int32) this
theorem hd_X3_meanDelay : (yX3_meanDelay).cls ≠ "java/lang/invoke/MethodHandle" ∧ (yX3_meanDelay).cls ≠ "java/lang/invoke/VarHandle" ∧ (parseMethodDescriptor (yX3_meanDelay).desc).map (fun d => d.parameters.length) = some 0 := by decide +kernel
theorem met_X3_meanDelay (K : ZK) (this : Nat) : zMeth K yX3_meanDelay (zws yX3_meanDelay cX3_meanDelay 1 (Option.some Jvm.ClassFile.FieldType.double)) 1 100 [.ref this] encD (s_X3_meanDelay K this) :=
  fun l G hl hK => zmet_of hl hK (by decide +kernel) rfl rfl (by simp [zsl_nil, zsl_rf, zsl_r, zsl_i, zsl_j, zsl_f, zsl_d]) (fun x hE => by simp only [zla_nil, zla_rf, zla_r, zla_i, zla_j, zla_f, zla_d, Nat.reduceAdd]; exact sm_X3_meanDelay hE this)
theorem sm_X3_receivedShare_J15 {x : ZX UInt32} {K : ZK} (hE : zE x K cX3_receivedShare RX3 "receivedShare" 1 1 100 encF (Option.some Jvm.ClassFile.FieldType.float) []) (x0 : Nat) (t0 : Int32) (t1 : Nat) : zS x 15 [(0, va_rf (some x0))] [.int t0, va_rf (some t1)] (s_X3_receivedShare_J15 K x0 t0 t1) := by
  unfold s_X3_receivedShare_J15
  refine zs_putI hE (ci := 35) (k := 5) rfl (by decide) in_X3 (Or.inl q2834) (Or.inl rfl) (Or.inl rfl) (fun h => nomatch h) rfl dX3_receivedShare_15 ?_
  refine zs_aload_n hE 0 rfl rfl dX3_receivedShare_18 ?_
  refine zs_getI hE (ci := 35) (k := 5) rfl (by decide) in_X3 (Or.inl q2834) (Or.inl rfl) dX3_receivedShare_19 (fun v3 => ?_)
  refine zs_if_le hE 29 (by decide) dX3_receivedShare_22 ?_ ?_
  · refine zs_aload_n hE 0 rfl rfl dX3_receivedShare_29 ?_
    refine zs_getR hE (ci := 35) (k := 0) rfl (by decide) in_X3 (Or.inl q2829) (Or.inl rfl) dX3_receivedShare_30 (fun v4 => ?_)
    refine zs_bipush hE (v := (6 : Int32)) (by decide) dX3_receivedShare_33 ?_
    refine zs_ald hE dX3_receivedShare_35 (fun v5 => ?_)
    refine zs_i2f hE dX3_receivedShare_36 ?_
    refine zs_aload_n hE 0 rfl rfl dX3_receivedShare_37 ?_
    refine zs_getR hE (ci := 35) (k := 0) rfl (by decide) in_X3 (Or.inl q2829) (Or.inl rfl) dX3_receivedShare_38 (fun v6 => ?_)
    refine zs_iconst hE (v := (5 : Int32)) (by decide) dX3_receivedShare_41 ?_
    refine zs_ald hE dX3_receivedShare_42 (fun v7 => ?_)
    refine zs_i2f hE dX3_receivedShare_43 ?_
    refine zs_fdiv hE dX3_receivedShare_44 ?_
    exact zs_fret hE dX3_receivedShare_45
  · refine zs_fconst0 hE dX3_receivedShare_25 ?_
    refine zs_goto hE 45 (by decide) dX3_receivedShare_26 ?_
    exact zs_fret hE dX3_receivedShare_45
theorem sm_X3_receivedShare {x : ZX UInt32} {K : ZK} (hE : zE x K cX3_receivedShare RX3 "receivedShare" 1 1 100 encF (Option.some Jvm.ClassFile.FieldType.float) []) (this : Nat) : zS x 0 [(0, va_rf (some this))] [] (s_X3_receivedShare K this) := by
  unfold s_X3_receivedShare
  refine zs_aload_n hE 0 rfl rfl dX3_receivedShare_0 ?_
  refine zs_aload_n hE 0 rfl rfl dX3_receivedShare_1 ?_
  refine zs_getR hE (ci := 35) (k := 0) rfl (by decide) in_X3 (Or.inl q2829) (Or.inl rfl) dX3_receivedShare_2 (fun v1 => ?_)
  refine zs_iconst hE (v := (5 : Int32)) (by decide) dX3_receivedShare_5 ?_
  refine zs_ald hE dX3_receivedShare_6 (fun v2 => ?_)
  refine zs_if_ne hE 14 (by decide) dX3_receivedShare_7 ?_ ?_
  · refine zs_iconst hE (v := (1 : Int32)) (by decide) dX3_receivedShare_10 ?_
    refine zs_goto hE 15 (by decide) dX3_receivedShare_11 ?_
    exact sm_X3_receivedShare_J15 hE this (1 : Int32) this
  · refine zs_iconst hE (v := (0 : Int32)) (by decide) dX3_receivedShare_14 ?_
    exact sm_X3_receivedShare_J15 hE this (0 : Int32) this
theorem hd_X3_receivedShare : (yX3_receivedShare).cls ≠ "java/lang/invoke/MethodHandle" ∧ (yX3_receivedShare).cls ≠ "java/lang/invoke/VarHandle" ∧ (parseMethodDescriptor (yX3_receivedShare).desc).map (fun d => d.parameters.length) = some 0 := by decide +kernel
theorem met_X3_receivedShare (K : ZK) (this : Nat) : zMeth K yX3_receivedShare (zws yX3_receivedShare cX3_receivedShare 1 (Option.some Jvm.ClassFile.FieldType.float)) 1 100 [.ref this] encF (s_X3_receivedShare K this) :=
  fun l G hl hK => zmet_of hl hK (by decide +kernel) rfl rfl (by simp [zsl_nil, zsl_rf, zsl_r, zsl_i, zsl_j, zsl_f, zsl_d]) (fun x hE => by simp only [zla_nil, zla_rf, zla_r, zla_i, zla_j, zla_f, zla_d, Nat.reduceAdd]; exact sm_X3_receivedShare hE this)
theorem sm_X3_undo {x : ZX Int32} {K : ZK} (hE : zE x K cX3_undo RX3 "undo" 1 2 124 encI (Option.some Jvm.ClassFile.FieldType.int) []) (this : Nat) : zS x 0 [(0, va_rf (some this))] [] (s_X3_undo K this) := by
  unfold s_X3_undo
  refine zs_aload_n hE 0 rfl rfl dX3_undo_0 ?_
  refine zs_iconst hE (v := (0 : Int32)) (by decide) dX3_undo_1 ?_
  refine zs_putI hE (ci := 35) (k := 5) rfl (by decide) in_X3 (Or.inl q2834) (Or.inl rfl) (Or.inl rfl) (fun h => nomatch h) rfl dX3_undo_2 ?_
  refine zs_aload_n hE 0 rfl rfl dX3_undo_5 ?_
  refine zs_getI hE (ci := 35) (k := 6) rfl (by decide) in_X3 (Or.inl q2835) (Or.inl rfl) dX3_undo_6 (fun v1 => ?_)
  refine zs_if_ne hE 18 (by decide) dX3_undo_9 ?_ ?_
  · refine zs_aload_n hE 0 rfl rfl dX3_undo_12 ?_
    refine zs_iconst hE (v := (1 : Int32)) (by decide) dX3_undo_13 ?_
    refine zs_callV hE (As := [.int (1 : Int32)]) (encA := encI) (ci := 35) rfl (fun y0 => met_X3_no K y0 (1 : Int32)) q2953 q105 q2950 q2952 (zq qs52) hd_X3_no (by decide) (by decide) rfl (by simp [zcat_rf, zcat_i, zcat_j, zcat_f, zcat_d]) (fun z hz => by cases hz) dX3_undo_14 (fun r2 => ?_)
    show zS _ 17 _ [.int r2] _
    exact zs_iret hE dX3_undo_17
  · refine zs_aload_n hE 0 rfl rfl dX3_undo_18 ?_
    refine zs_dup hE (zcat_rf _) dX3_undo_19 ?_
    refine zs_getI hE (ci := 35) (k := 6) rfl (by decide) in_X3 (Or.inl q2835) (Or.inl rfl) dX3_undo_20 (fun v3 => ?_)
    refine zs_iconst hE (v := (1 : Int32)) (by decide) dX3_undo_23 ?_
    refine zs_isub hE dX3_undo_24 ?_
    refine zs_putI hE (ci := 35) (k := 6) rfl (by decide) in_X3 (Or.inl q2835) (Or.inl rfl) (Or.inl rfl) (fun h => nomatch h) rfl dX3_undo_25 ?_
    refine zs_aload_n hE 0 rfl rfl dX3_undo_28 ?_
    refine zs_getR hE (ci := 35) (k := 4) rfl (by decide) in_X3 (Or.inl q2833) (Or.inl rfl) dX3_undo_29 (fun v4 => ?_)
    refine zs_sipush hE (v := (671 : Int32)) (by decide) dX3_undo_32 ?_
    refine zs_aload_n hE 0 rfl rfl dX3_undo_35 ?_
    refine zs_getI hE (ci := 35) (k := 6) rfl (by decide) in_X3 (Or.inl q2835) (Or.inl rfl) dX3_undo_36 (fun v5 => ?_)
    refine zs_imul hE dX3_undo_39 ?_
    refine zs_aload_n hE 0 rfl rfl dX3_undo_40 ?_
    refine zs_getR hE (ci := 35) (k := 0) rfl (by decide) in_X3 (Or.inl q2829) (Or.inl rfl) dX3_undo_41 (fun v6 => ?_)
    refine zs_iconst hE (v := (0 : Int32)) (by decide) dX3_undo_44 ?_
    refine zs_callS hE (As := [va_rf v4, .int ((671 : Int32) * v5), va_rf v6, .int (0 : Int32)]) (encA := encV) (met_X3_copies K v4 ((671 : Int32) * v5) v6 (0 : Int32)) q2923 q105 q2921 q2922 hd_X3_copies (by decide) (by decide) rfl (by simp [zcat_rf, zcat_i, zcat_j, zcat_f, zcat_d]) (fun z hz => by cases hz) dX3_undo_45 (fun _ => ?_)
    show zS _ 48 _ [] _
    refine zs_aload_n hE 0 rfl rfl dX3_undo_48 ?_
    refine zs_getI hE (ci := 35) (k := 6) rfl (by decide) in_X3 (Or.inl q2835) (Or.inl rfl) dX3_undo_49 (fun v7 => ?_)
    exact zs_iret hE dX3_undo_52
theorem hd_X3_undo : (yX3_undo).cls ≠ "java/lang/invoke/MethodHandle" ∧ (yX3_undo).cls ≠ "java/lang/invoke/VarHandle" ∧ (parseMethodDescriptor (yX3_undo).desc).map (fun d => d.parameters.length) = some 0 := by decide +kernel
theorem met_X3_undo (K : ZK) (this : Nat) : zMeth K yX3_undo (zws yX3_undo cX3_undo 1 (Option.some Jvm.ClassFile.FieldType.int)) 2 124 [.ref this] encI (s_X3_undo K this) :=
  fun l G hl hK => zmet_of hl hK (by decide +kernel) rfl rfl (by simp [zsl_nil, zsl_rf, zsl_r, zsl_i, zsl_j, zsl_f, zsl_d]) (fun x hE => by simp only [zla_nil, zla_rf, zla_r, zla_i, zla_j, zla_f, zla_d, Nat.reduceAdd]; exact sm_X3_undo hE this)
theorem sm_X3_save {x : ZX Int32} {K : ZK} (hE : zE x K cX3_save RX3 "save" 1 2 124 encI (Option.some Jvm.ClassFile.FieldType.int) []) (this : Nat) : zS x 0 [(0, va_rf (some this))] [] (s_X3_save K this) := by
  unfold s_X3_save
  refine zs_aload_n hE 0 rfl rfl dX3_save_0 ?_
  refine zs_iconst hE (v := (0 : Int32)) (by decide) dX3_save_1 ?_
  refine zs_putI hE (ci := 35) (k := 5) rfl (by decide) in_X3 (Or.inl q2834) (Or.inl rfl) (Or.inl rfl) (fun h => nomatch h) rfl dX3_save_2 ?_
  refine zs_aload_n hE 0 rfl rfl dX3_save_5 ?_
  refine zs_getR hE (ci := 35) (k := 0) rfl (by decide) in_X3 (Or.inl q2829) (Or.inl rfl) dX3_save_6 (fun v1 => ?_)
  refine zs_iconst hE (v := (0 : Int32)) (by decide) dX3_save_9 ?_
  refine zs_aload_n hE 0 rfl rfl dX3_save_10 ?_
  refine zs_getR hE (ci := 35) (k := 3) rfl (by decide) in_X3 (Or.inl q2832) (Or.inl rfl) dX3_save_11 (fun v2 => ?_)
  refine zs_iconst hE (v := (0 : Int32)) (by decide) dX3_save_14 ?_
  refine zs_callS hE (As := [va_rf v1, .int (0 : Int32), va_rf v2, .int (0 : Int32)]) (encA := encV) (met_X3_copies K v1 (0 : Int32) v2 (0 : Int32)) q2923 q105 q2921 q2922 hd_X3_copies (by decide) (by decide) rfl (by simp [zcat_rf, zcat_i, zcat_j, zcat_f, zcat_d]) (fun z hz => by cases hz) dX3_save_15 (fun _ => ?_)
  show zS _ 18 _ [] _
  refine zs_aload_n hE 0 rfl rfl dX3_save_18 ?_
  refine zs_iconst hE (v := (1 : Int32)) (by decide) dX3_save_19 ?_
  refine zs_putT hE (ci := 35) (k := 14) rfl (by decide) in_X3 (Or.inl q2843) (Or.inl rfl) (Or.inl rfl) (fun h => nomatch h) rfl dX3_save_20 ?_
  refine zs_aload_n hE 0 rfl rfl dX3_save_23 ?_
  refine zs_getR hE (ci := 35) (k := 0) rfl (by decide) in_X3 (Or.inl q2829) (Or.inl rfl) dX3_save_24 (fun v3 => ?_)
  refine zs_iconst hE (v := (0 : Int32)) (by decide) dX3_save_27 ?_
  refine zs_ald hE dX3_save_28 (fun v4 => ?_)
  exact zs_iret hE dX3_save_29
theorem hd_X3_save : (yX3_save).cls ≠ "java/lang/invoke/MethodHandle" ∧ (yX3_save).cls ≠ "java/lang/invoke/VarHandle" ∧ (parseMethodDescriptor (yX3_save).desc).map (fun d => d.parameters.length) = some 0 := by decide +kernel
theorem met_X3_save (K : ZK) (this : Nat) : zMeth K yX3_save (zws yX3_save cX3_save 1 (Option.some Jvm.ClassFile.FieldType.int)) 2 124 [.ref this] encI (s_X3_save K this) :=
  fun l G hl hK => zmet_of hl hK (by decide +kernel) rfl rfl (by simp [zsl_nil, zsl_rf, zsl_r, zsl_i, zsl_j, zsl_f, zsl_d]) (fun x hE => by simp only [zla_nil, zla_rf, zla_r, zla_i, zla_j, zla_f, zla_d, Nat.reduceAdd]; exact sm_X3_save hE this)
theorem sm_X3_restore {x : ZX Int32} {K : ZK} (hE : zE x K cX3_restore RX3 "restore" 1 2 124 encI (Option.some Jvm.ClassFile.FieldType.int) []) (this : Nat) : zS x 0 [(0, va_rf (some this))] [] (s_X3_restore K this) := by
  unfold s_X3_restore
  refine zs_aload_n hE 0 rfl rfl dX3_restore_0 ?_
  refine zs_iconst hE (v := (0 : Int32)) (by decide) dX3_restore_1 ?_
  refine zs_putI hE (ci := 35) (k := 5) rfl (by decide) in_X3 (Or.inl q2834) (Or.inl rfl) (Or.inl rfl) (fun h => nomatch h) rfl dX3_restore_2 ?_
  refine zs_aload_n hE 0 rfl rfl dX3_restore_5 ?_
  refine zs_getI hE (ci := 35) (k := 14) rfl (by decide) in_X3 (Or.inl q2843) (Or.inl rfl) dX3_restore_6 (fun v1 => ?_)
  refine zs_if_ne hE 18 (by decide) dX3_restore_9 ?_ ?_
  · refine zs_aload_n hE 0 rfl rfl dX3_restore_12 ?_
    refine zs_iconst hE (v := (1 : Int32)) (by decide) dX3_restore_13 ?_
    refine zs_callV hE (As := [.int (1 : Int32)]) (encA := encI) (ci := 35) rfl (fun y0 => met_X3_no K y0 (1 : Int32)) q2953 q105 q2950 q2952 (zq qs52) hd_X3_no (by decide) (by decide) rfl (by simp [zcat_rf, zcat_i, zcat_j, zcat_f, zcat_d]) (fun z hz => by cases hz) dX3_restore_14 (fun r2 => ?_)
    show zS _ 17 _ [.int r2] _
    exact zs_iret hE dX3_restore_17
  · refine zs_aload_n hE 0 rfl rfl dX3_restore_18 ?_
    refine zs_getR hE (ci := 35) (k := 3) rfl (by decide) in_X3 (Or.inl q2832) (Or.inl rfl) dX3_restore_19 (fun v3 => ?_)
    refine zs_iconst hE (v := (0 : Int32)) (by decide) dX3_restore_22 ?_
    refine zs_aload_n hE 0 rfl rfl dX3_restore_23 ?_
    refine zs_getR hE (ci := 35) (k := 0) rfl (by decide) in_X3 (Or.inl q2829) (Or.inl rfl) dX3_restore_24 (fun v4 => ?_)
    refine zs_iconst hE (v := (0 : Int32)) (by decide) dX3_restore_27 ?_
    refine zs_callS hE (As := [va_rf v3, .int (0 : Int32), va_rf v4, .int (0 : Int32)]) (encA := encV) (met_X3_copies K v3 (0 : Int32) v4 (0 : Int32)) q2923 q105 q2921 q2922 hd_X3_copies (by decide) (by decide) rfl (by simp [zcat_rf, zcat_i, zcat_j, zcat_f, zcat_d]) (fun z hz => by cases hz) dX3_restore_28 (fun _ => ?_)
    show zS _ 31 _ [] _
    refine zs_aload_n hE 0 rfl rfl dX3_restore_31 ?_
    refine zs_iconst hE (v := (0 : Int32)) (by decide) dX3_restore_32 ?_
    refine zs_putI hE (ci := 35) (k := 6) rfl (by decide) in_X3 (Or.inl q2835) (Or.inl rfl) (Or.inl rfl) (fun h => nomatch h) rfl dX3_restore_33 ?_
    refine zs_aload_n hE 0 rfl rfl dX3_restore_36 ?_
    refine zs_getR hE (ci := 35) (k := 0) rfl (by decide) in_X3 (Or.inl q2829) (Or.inl rfl) dX3_restore_37 (fun v5 => ?_)
    refine zs_iconst hE (v := (0 : Int32)) (by decide) dX3_restore_40 ?_
    refine zs_ald hE dX3_restore_41 (fun v6 => ?_)
    exact zs_iret hE dX3_restore_42
theorem hd_X3_restore : (yX3_restore).cls ≠ "java/lang/invoke/MethodHandle" ∧ (yX3_restore).cls ≠ "java/lang/invoke/VarHandle" ∧ (parseMethodDescriptor (yX3_restore).desc).map (fun d => d.parameters.length) = some 0 := by decide +kernel
theorem met_X3_restore (K : ZK) (this : Nat) : zMeth K yX3_restore (zws yX3_restore cX3_restore 1 (Option.some Jvm.ClassFile.FieldType.int)) 2 124 [.ref this] encI (s_X3_restore K this) :=
  fun l G hl hK => zmet_of hl hK (by decide +kernel) rfl rfl (by simp [zsl_nil, zsl_rf, zsl_r, zsl_i, zsl_j, zsl_f, zsl_d]) (fun x hE => by simp only [zla_nil, zla_rf, zla_r, zla_i, zla_j, zla_f, zla_d, Nat.reduceAdd]; exact sm_X3_restore hE this)
theorem sm_X0_law_J1302 {x : ZX Int32} {K : ZK} (hE : zE x K cL_law RX0 "law" 9 8192 104096 encI (Option.some Jvm.ClassFile.FieldType.boolean) []) (x0 : Option Nat) (x1 : Nat) (x2 : Nat) (x3 : Nat) (x4 : Nat) (x5 : Int32) (t0 : Int64) (t1 : Int64) (self28 : Int32 → ZP Int32) (hs28 : ∀ v : Int32, zS x 28 [(0, va_rf x0), (1, va_rf (some x1)), (2, va_rf (some x2)), (3, va_rf (some x3)), (4, va_rf (some x4)), (5, .int v)] [] (self28 v)) : zS x 1302 [(0, va_rf x0), (1, va_rf (some x1)), (2, va_rf (some x2)), (3, va_rf (some x3)), (4, va_rf (some x4)), (5, .int x5)] [.long t0, .long t1] (s_X0_law_J1302 K x0 x1 x2 x3 x4 x5 t0 t1 self28) := by
  unfold s_X0_law_J1302
  refine zs_lcmp hE dL_law_1302 ?_
  refine zs_if_eq hE 1308 (by decide) dL_law_1303 ?_ ?_
  · refine zs_goto hE 2380 (by decide) dL_law_1308 ?_
    refine zs_iinc hE 5 (v := (5 : Int32)) rfl (by decide) (by decide) (zcat_rf (some x4)) (lv' := [(0, va_rf x0), (1, va_rf (some x1)), (2, va_rf (some x2)), (3, va_rf (some x3)), (4, va_rf (some x4))]) rfl dL_law_2380 ?_
    refine zs_goto hE 28 (by decide) dL_law_2383 ?_
    refine zs_sub [1, 2, 3, 4, 5, 0] rfl ?_
    exact hs28 (x5 + (5 : Int32))
  · refine zs_iconst hE (v := (0 : Int32)) (by decide) dL_law_1306 ?_
    exact zs_zret hE rfl dL_law_1307
theorem sm_X0_law_J1365 {x : ZX Int32} {K : ZK} (hE : zE x K cL_law RX0 "law" 9 8192 104096 encI (Option.some Jvm.ClassFile.FieldType.boolean) []) (x0 : Option Nat) (x1 : Nat) (x2 : Nat) (x3 : Nat) (x4 : Nat) (x5 : Int32) (t0 : Int64) (t1 : Int64) (self28 : Int32 → ZP Int32) (hs28 : ∀ v : Int32, zS x 28 [(0, va_rf x0), (1, va_rf (some x1)), (2, va_rf (some x2)), (3, va_rf (some x3)), (4, va_rf (some x4)), (5, .int v)] [] (self28 v)) : zS x 1365 [(0, va_rf x0), (1, va_rf (some x1)), (2, va_rf (some x2)), (3, va_rf (some x3)), (4, va_rf (some x4)), (5, .int x5)] [.long t0, .long t1] (s_X0_law_J1365 K x0 x1 x2 x3 x4 x5 t0 t1 self28) := by
  unfold s_X0_law_J1365
  refine zs_lcmp hE dL_law_1365 ?_
  refine zs_if_eq hE 1371 (by decide) dL_law_1366 ?_ ?_
  · refine zs_goto hE 2380 (by decide) dL_law_1371 ?_
    refine zs_iinc hE 5 (v := (5 : Int32)) rfl (by decide) (by decide) (zcat_rf (some x4)) (lv' := [(0, va_rf x0), (1, va_rf (some x1)), (2, va_rf (some x2)), (3, va_rf (some x3)), (4, va_rf (some x4))]) rfl dL_law_2380 ?_
    refine zs_goto hE 28 (by decide) dL_law_2383 ?_
    refine zs_sub [1, 2, 3, 4, 5, 0] rfl ?_
    exact hs28 (x5 + (5 : Int32))
  · refine zs_iconst hE (v := (0 : Int32)) (by decide) dL_law_1369 ?_
    exact zs_zret hE rfl dL_law_1370
theorem sm_X0_law_J1931 {x : ZX Int32} {K : ZK} (hE : zE x K cL_law RX0 "law" 9 8192 104096 encI (Option.some Jvm.ClassFile.FieldType.boolean) []) (x0 : Option Nat) (x1 : Nat) (x2 : Nat) (x3 : Nat) (x4 : Nat) (x5 : Int32) (x6 : Int32) (t0 : Int32) (t1 : Int32) (t2 : Nat) (self28 : Int32 → ZP Int32) (hs28 : ∀ v : Int32, zS x 28 [(0, va_rf x0), (1, va_rf (some x1)), (2, va_rf (some x2)), (3, va_rf (some x3)), (4, va_rf (some x4)), (5, .int v)] [] (self28 v)) : zS x 1931 [(0, va_rf x0), (1, va_rf (some x1)), (2, va_rf (some x2)), (3, va_rf (some x3)), (4, va_rf (some x4)), (5, .int x5), (6, .int x6)] [.int t0, .int t1, va_rf (some t2)] (s_X0_law_J1931 K x0 x1 x2 x3 x4 x5 x6 t0 t1 t2 self28) := by
  unfold s_X0_law_J1931
  refine zs_callV hE (As := [.int t1, .int t0]) (encA := encI) (ci := 35) rfl (fun y0 => met_X3_reason K y0 t1 t0) q3235 q105 q3232 q3233 (zq q3234) hd_X3_reason (by decide) (by decide) rfl (by simp [zcat_rf, zcat_i, zcat_j, zcat_f, zcat_d]) (fun z hz => by cases hz) dL_law_1931 (fun r192 => ?_)
  show zS _ 1934 _ [.int r192] _
  refine zs_istore hE (i := 7) (by decide) (rfl) (lv' := [(0, va_rf x0), (1, va_rf (some x1)), (2, va_rf (some x2)), (3, va_rf (some x3)), (4, va_rf (some x4)), (5, .int x5), (6, .int x6)]) rfl dL_law_1934 ?_
  refine zs_aload_n hE 3 rfl rfl dL_law_1936 ?_
  refine zs_callV hE (As := []) (encA := encI) (ci := 35) rfl (fun y0 => met_X3_thrown K y0) q2912 q105 q2909 q2910 (zq q2911) hd_X3_thrown (by decide) (by decide) rfl (by simp [zcat_rf, zcat_i, zcat_j, zcat_f, zcat_d]) (fun z hz => by cases hz) dL_law_1937 (fun r193 => ?_)
  show zS _ 1940 _ [.int r193] _
  refine zs_iload hE 7 rfl dL_law_1940 ?_
  refine zs_icmp_eq hE 1947 (by decide) dL_law_1942 ?_ ?_
  · refine zs_iload hE 7 rfl dL_law_1947 ?_
    refine zs_if_ne hE 1964 (by decide) dL_law_1949 ?_ ?_
    · refine zs_aload_n hE 4 rfl rfl dL_law_1952 ?_
      refine zs_iconst hE (v := (0 : Int32)) (by decide) dL_law_1953 ?_
      refine zs_aldJ hE dL_law_1954 (fun v194 => ?_)
      refine zs_iload hE 0 rfl dL_law_1955 ?_
      refine zs_i2l hE dL_law_1957 ?_
      refine zs_lcmp hE dL_law_1958 ?_
      refine zs_if_eq hE 1964 (by decide) dL_law_1959 ?_ ?_
      · refine zs_goto hE 2380 (by decide) dL_law_1964 ?_
        refine zs_iinc hE 6 (v := (5 : Int32)) rfl (by decide) (by decide) (zcat_rf (some x4)) (lv' := [(7, .int r192), (0, va_rf x0), (1, va_rf (some x1)), (2, va_rf (some x2)), (3, va_rf (some x3)), (4, va_rf (some x4)), (6, .int x6)]) rfl dL_law_2380 ?_
        refine zs_goto hE 28 (by decide) dL_law_2383 ?_
        refine zs_sub [2, 3, 4, 5, 6, 0] rfl ?_
        exact hs28 (x5 + (5 : Int32))
      · refine zs_iconst hE (v := (0 : Int32)) (by decide) dL_law_1962 ?_
        exact zs_zret hE rfl dL_law_1963
    · refine zs_goto hE 2380 (by decide) dL_law_1964 ?_
      refine zs_iinc hE 6 (v := (5 : Int32)) rfl (by decide) (by decide) (zcat_rf (some x4)) (lv' := [(7, .int r192), (0, va_rf x0), (1, va_rf (some x1)), (2, va_rf (some x2)), (3, va_rf (some x3)), (4, va_rf (some x4)), (6, .int x6)]) rfl dL_law_2380 ?_
      refine zs_goto hE 28 (by decide) dL_law_2383 ?_
      refine zs_sub [2, 3, 4, 5, 6, 0] rfl ?_
      exact hs28 (x5 + (5 : Int32))
  · refine zs_iconst hE (v := (0 : Int32)) (by decide) dL_law_1945 ?_
    exact zs_zret hE rfl dL_law_1946
theorem sm_X0_law_J1904 {x : ZX Int32} {K : ZK} (hE : zE x K cL_law RX0 "law" 9 8192 104096 encI (Option.some Jvm.ClassFile.FieldType.boolean) []) (x0 : Option Nat) (x1 : Nat) (x2 : Nat) (x3 : Nat) (x4 : Nat) (x5 : Int32) (t0 : Int32) (t1 : Int32) (t2 : Nat) (self28 : Int32 → ZP Int32) (hs28 : ∀ v : Int32, zS x 28 [(0, va_rf x0), (1, va_rf (some x1)), (2, va_rf (some x2)), (3, va_rf (some x3)), (4, va_rf (some x4)), (5, .int v)] [] (self28 v)) : zS x 1904 [(0, va_rf x0), (1, va_rf (some x1)), (2, va_rf (some x2)), (3, va_rf (some x3)), (4, va_rf (some x4)), (5, .int x5)] [.int t0, .int t1, va_rf (some t2)] (s_X0_law_J1904 K x0 x1 x2 x3 x4 x5 t0 t1 t2 self28) := by
  unfold s_X0_law_J1904
  refine zs_aload_n hE 3 rfl rfl dL_law_1904 ?_
  refine zs_callSX hE (As := [va_rf (some t2), .int t1, .int t0, va_rf (some x3)]) (encA := encI) (met_X0_reason K (some t2) t1 t0 (some x3)) q2722 q94 q2720 q2721 hd_X0_reason (by decide) (by decide) rfl (by simp [zcat_rf, zcat_i, zcat_j, zcat_f, zcat_d]) (fun z hz => by cases hz) dL_law_1905 (fun r189 => ?_)
  show zS _ 1908 _ [.int r189] _
  refine zs_istore hE (i := 6) (by decide) (rfl) (lv' := [(0, va_rf x0), (1, va_rf (some x1)), (2, va_rf (some x2)), (3, va_rf (some x3)), (4, va_rf (some x4)), (5, .int x5)]) rfl dL_law_1908 ?_
  refine zs_aload_n hE 3 rfl rfl dL_law_1910 ?_
  refine zs_aload_n hE 1 rfl rfl dL_law_1911 ?_
  refine zs_iload hE 6 rfl dL_law_1912 ?_
  refine zs_iconst hE (v := (1 : Int32)) (by decide) dL_law_1914 ?_
  refine zs_iadd hE dL_law_1915 ?_
  refine zs_aldKI hE dL_law_1916 (fun v190 => ?_)
  refine zs_aload_n hE 1 rfl rfl dL_law_1917 ?_
  refine zs_iload hE 6 rfl dL_law_1918 ?_
  refine zs_iconst hE (v := (2 : Int32)) (by decide) dL_law_1920 ?_
  refine zs_iadd hE dL_law_1921 ?_
  refine zs_aldKI hE dL_law_1922 (fun v191 => ?_)
  refine zs_if_eq hE 1930 (by decide) dL_law_1923 ?_ ?_
  · refine zs_iconst hE (v := (0 : Int32)) (by decide) dL_law_1930 ?_
    refine zs_sub [1, 2, 3, 4, 5, 6, 0] rfl ?_
    exact sm_X0_law_J1931 hE x0 x1 x2 x3 x4 x5 r189 (0 : Int32) v190 x2 self28 hs28
  · refine zs_iconst hE (v := (1 : Int32)) (by decide) dL_law_1926 ?_
    refine zs_goto hE 1931 (by decide) dL_law_1927 ?_
    refine zs_sub [1, 2, 3, 4, 5, 6, 0] rfl ?_
    exact sm_X0_law_J1931 hE x0 x1 x2 x3 x4 x5 r189 (1 : Int32) v190 x2 self28 hs28
theorem sm_X0_law_B28 {x : ZX Int32} {K : ZK} (hE : zE x K cL_law RX0 "law" 9 8192 104096 encI (Option.some Jvm.ClassFile.FieldType.boolean) []) (x0 : Option Nat) (x1 : Nat) (x2 : Nat) (x3 : Nat) (x4 : Nat) (self28 : Int32 → ZP Int32) (hs28 : ∀ v : Int32, zS x 28 [(0, va_rf x0), (1, va_rf (some x1)), (2, va_rf (some x2)), (3, va_rf (some x3)), (4, va_rf (some x4)), (5, .int v)] [] (self28 v)) (x5 : Int32) : zS x 28 [(0, va_rf x0), (1, va_rf (some x1)), (2, va_rf (some x2)), (3, va_rf (some x3)), (4, va_rf (some x4)), (5, .int x5)] [] (s_X0_law_B28 K x0 x1 x2 x3 x4 self28 x5) := by
  unfold s_X0_law_B28
  refine zs_iload hE 5 rfl dL_law_28 ?_
  refine zs_aload_n hE 0 rfl rfl dL_law_30 ?_
  refine zs_lenK hE (t := 6) rfl dL_law_31 (fun v5 => ?_)
  refine zs_iconst hE (v := (5 : Int32)) (by decide) dL_law_32 ?_
  refine zs_isub hE dL_law_33 ?_
  refine zs_icmp_gt hE 2386 (by decide) dL_law_34 ?_ ?_
  · refine zs_iconst hE (v := (1 : Int32)) (by decide) dL_law_2386 ?_
    exact zs_zret hE rfl dL_law_2387
  · refine zs_aload_n hE 0 rfl rfl dL_law_37 ?_
    refine zs_iload hE 5 rfl dL_law_38 ?_
    refine zs_aldKI hE dL_law_40 (fun v6 => ?_)
    refine zs_bipush hE (v := (63 : Int32)) (by decide) dL_law_41 ?_
    refine zs_iand hE dL_law_43 ?_
    refine zs_tsw hE (offl := [180, 236, 292, 384, 440, 496, 552, 596, 652, 708, 764, 832, 888, 944, 1012, 1068, 1136, 1204, 1267, 1330, 1374, 1430, 1486, 1554, 1610, 1654, 1698, 1711, 1724, 1782, 1826, 1839, 1923, 1936, 1992, 2048, 2104, 2169, 2235, 2279, 2292]) rfl (by decide) dL_law_44 (tgt := 2380) (by decide) ⟨⟨by decide, 224, by decide, ?_⟩, ⟨by decide, 280, by decide, ?_⟩, ⟨by decide, 336, by decide, ?_⟩, ⟨by decide, 428, by decide, ?_⟩, ⟨by decide, 484, by decide, ?_⟩, ⟨by decide, 540, by decide, ?_⟩, ⟨by decide, 596, by decide, ?_⟩, ⟨by decide, 640, by decide, ?_⟩, ⟨by decide, 696, by decide, ?_⟩, ⟨by decide, 752, by decide, ?_⟩, ⟨by decide, 808, by decide, ?_⟩, ⟨by decide, 876, by decide, ?_⟩, ⟨by decide, 932, by decide, ?_⟩, ⟨by decide, 988, by decide, ?_⟩, ⟨by decide, 1056, by decide, ?_⟩, ⟨by decide, 1112, by decide, ?_⟩, ⟨by decide, 1180, by decide, ?_⟩, ⟨by decide, 1248, by decide, ?_⟩, ⟨by decide, 1311, by decide, ?_⟩, ⟨by decide, 1374, by decide, ?_⟩, ⟨by decide, 1418, by decide, ?_⟩, ⟨by decide, 1474, by decide, ?_⟩, ⟨by decide, 1530, by decide, ?_⟩, ⟨by decide, 1598, by decide, ?_⟩, ⟨by decide, 1654, by decide, ?_⟩, ⟨by decide, 1698, by decide, ?_⟩, ⟨by decide, 1742, by decide, ?_⟩, ⟨by decide, 1755, by decide, ?_⟩, ⟨by decide, 1768, by decide, ?_⟩, ⟨by decide, 1826, by decide, ?_⟩, ⟨by decide, 1870, by decide, ?_⟩, ⟨by decide, 1883, by decide, ?_⟩, ⟨by decide, 1967, by decide, ?_⟩, ⟨by decide, 1980, by decide, ?_⟩, ⟨by decide, 2036, by decide, ?_⟩, ⟨by decide, 2092, by decide, ?_⟩, ⟨by decide, 2148, by decide, ?_⟩, ⟨by decide, 2213, by decide, ?_⟩, ⟨by decide, 2279, by decide, ?_⟩, ⟨by decide, 2323, by decide, ?_⟩, ⟨by decide, 2336, by decide, ?_⟩, trivial⟩ ?_
    · refine zs_aload_n hE 1 rfl rfl dL_law_224 ?_
      refine zs_aload_n hE 0 rfl rfl dL_law_225 ?_
      refine zs_iload hE 5 rfl dL_law_226 ?_
      refine zs_iconst hE (v := (1 : Int32)) (by decide) dL_law_228 ?_
      refine zs_iadd hE dL_law_229 ?_
      refine zs_aldKI hE dL_law_230 (fun v7 => ?_)
      refine zs_aload_n hE 3 rfl rfl dL_law_231 ?_
      refine zs_callSX hE (As := [va_rf (some x1), .int v7, va_rf (some x3)]) (encA := encI) (met_X0_join K (some x1) v7 (some x3)) q1764 q94 q1762 q1763 hd_X0_join (by decide) (by decide) rfl (by simp [zcat_rf, zcat_i, zcat_j, zcat_f, zcat_d]) (fun z hz => by cases hz) dL_law_232 (fun r8 => ?_)
      show zS _ 235 _ [.int r8] _
      refine zs_istore hE (i := 6) (by decide) (rfl) (lv' := [(0, va_rf x0), (1, va_rf (some x1)), (2, va_rf (some x2)), (3, va_rf (some x3)), (4, va_rf (some x4)), (5, .int x5)]) rfl dL_law_235 ?_
      refine zs_aload_n hE 3 rfl rfl dL_law_237 ?_
      refine zs_aload_n hE 1 rfl rfl dL_law_238 ?_
      refine zs_iload hE 6 rfl dL_law_239 ?_
      refine zs_iconst hE (v := (1 : Int32)) (by decide) dL_law_241 ?_
      refine zs_iadd hE dL_law_242 ?_
      refine zs_aldKI hE dL_law_243 (fun v9 => ?_)
      refine zs_callV hE (As := [.int v9]) (encA := encI) (ci := 35) rfl (fun y0 => met_X3_join K y0 v9) q2916 q105 q2913 q2914 (zq q2915) hd_X3_join (by decide) (by decide) rfl (by simp [zcat_rf, zcat_i, zcat_j, zcat_f, zcat_d]) (fun z hz => by cases hz) dL_law_244 (fun r10 => ?_)
      show zS _ 247 _ [.int r10] _
      refine zs_istore hE (i := 7) (by decide) (rfl) (lv' := [(6, .int r8), (0, va_rf x0), (1, va_rf (some x1)), (2, va_rf (some x2)), (3, va_rf (some x3)), (4, va_rf (some x4)), (5, .int x5)]) rfl dL_law_247 ?_
      refine zs_aload_n hE 4 rfl rfl dL_law_249 ?_
      refine zs_callV hE (As := []) (encA := encI) (ci := 35) rfl (fun y0 => met_X3_thrown K y0) q2912 q105 q2909 q2910 (zq q2911) hd_X3_thrown (by decide) (by decide) rfl (by simp [zcat_rf, zcat_i, zcat_j, zcat_f, zcat_d]) (fun z hz => by cases hz) dL_law_250 (fun r11 => ?_)
      show zS _ 253 _ [.int r11] _
      refine zs_iload hE 1 rfl dL_law_253 ?_
      refine zs_icmp_eq hE 260 (by decide) dL_law_255 ?_ ?_
      · refine zs_iload hE 1 rfl dL_law_260 ?_
        refine zs_if_ne hE 277 (by decide) dL_law_262 ?_ ?_
        · refine zs_aload_n hE 5 rfl rfl dL_law_265 ?_
          refine zs_iconst hE (v := (0 : Int32)) (by decide) dL_law_266 ?_
          refine zs_aldJ hE dL_law_267 (fun v12 => ?_)
          refine zs_iload hE 0 rfl dL_law_268 ?_
          refine zs_i2l hE dL_law_270 ?_
          refine zs_lcmp hE dL_law_271 ?_
          refine zs_if_eq hE 277 (by decide) dL_law_272 ?_ ?_
          · refine zs_goto hE 2380 (by decide) dL_law_277 ?_
            refine zs_iinc hE 7 (v := (5 : Int32)) rfl (by decide) (by decide) (zcat_rf (some x4)) (lv' := [(7, .int r10), (6, .int r8), (0, va_rf x0), (1, va_rf (some x1)), (2, va_rf (some x2)), (3, va_rf (some x3)), (4, va_rf (some x4))]) rfl dL_law_2380 ?_
            refine zs_goto hE 28 (by decide) dL_law_2383 ?_
            refine zs_sub [3, 4, 5, 6, 7, 0] rfl ?_
            exact hs28 (x5 + (5 : Int32))
          · refine zs_iconst hE (v := (0 : Int32)) (by decide) dL_law_275 ?_
            exact zs_zret hE rfl dL_law_276
        · refine zs_goto hE 2380 (by decide) dL_law_277 ?_
          refine zs_iinc hE 7 (v := (5 : Int32)) rfl (by decide) (by decide) (zcat_rf (some x4)) (lv' := [(7, .int r10), (6, .int r8), (0, va_rf x0), (1, va_rf (some x1)), (2, va_rf (some x2)), (3, va_rf (some x3)), (4, va_rf (some x4))]) rfl dL_law_2380 ?_
          refine zs_goto hE 28 (by decide) dL_law_2383 ?_
          refine zs_sub [3, 4, 5, 6, 7, 0] rfl ?_
          exact hs28 (x5 + (5 : Int32))
      · refine zs_iconst hE (v := (0 : Int32)) (by decide) dL_law_258 ?_
        exact zs_zret hE rfl dL_law_259
    · refine zs_aload_n hE 1 rfl rfl dL_law_280 ?_
      refine zs_aload_n hE 0 rfl rfl dL_law_281 ?_
      refine zs_iload hE 5 rfl dL_law_282 ?_
      refine zs_iconst hE (v := (1 : Int32)) (by decide) dL_law_284 ?_
      refine zs_iadd hE dL_law_285 ?_
      refine zs_aldKI hE dL_law_286 (fun v13 => ?_)
      refine zs_aload_n hE 3 rfl rfl dL_law_287 ?_
      refine zs_callSX hE (As := [va_rf (some x1), .int v13, va_rf (some x3)]) (encA := encI) (met_X0_leave K (some x1) v13 (some x3)) q1884 q94 q1882 q1883 hd_X0_leave (by decide) (by decide) rfl (by simp [zcat_rf, zcat_i, zcat_j, zcat_f, zcat_d]) (fun z hz => by cases hz) dL_law_288 (fun r14 => ?_)
      show zS _ 291 _ [.int r14] _
      refine zs_istore hE (i := 6) (by decide) (rfl) (lv' := [(0, va_rf x0), (1, va_rf (some x1)), (2, va_rf (some x2)), (3, va_rf (some x3)), (4, va_rf (some x4)), (5, .int x5)]) rfl dL_law_291 ?_
      refine zs_aload_n hE 3 rfl rfl dL_law_293 ?_
      refine zs_aload_n hE 1 rfl rfl dL_law_294 ?_
      refine zs_iload hE 6 rfl dL_law_295 ?_
      refine zs_iconst hE (v := (1 : Int32)) (by decide) dL_law_297 ?_
      refine zs_iadd hE dL_law_298 ?_
      refine zs_aldKI hE dL_law_299 (fun v15 => ?_)
      refine zs_callV hE (As := [.int v15]) (encA := encI) (ci := 35) rfl (fun y0 => met_X3_leave K y0 v15) q2969 q105 q2966 q2967 (zq q2968) hd_X3_leave (by decide) (by decide) rfl (by simp [zcat_rf, zcat_i, zcat_j, zcat_f, zcat_d]) (fun z hz => by cases hz) dL_law_300 (fun r16 => ?_)
      show zS _ 303 _ [.int r16] _
      refine zs_istore hE (i := 7) (by decide) (rfl) (lv' := [(6, .int r14), (0, va_rf x0), (1, va_rf (some x1)), (2, va_rf (some x2)), (3, va_rf (some x3)), (4, va_rf (some x4)), (5, .int x5)]) rfl dL_law_303 ?_
      refine zs_aload_n hE 4 rfl rfl dL_law_305 ?_
      refine zs_callV hE (As := []) (encA := encI) (ci := 35) rfl (fun y0 => met_X3_thrown K y0) q2912 q105 q2909 q2910 (zq q2911) hd_X3_thrown (by decide) (by decide) rfl (by simp [zcat_rf, zcat_i, zcat_j, zcat_f, zcat_d]) (fun z hz => by cases hz) dL_law_306 (fun r17 => ?_)
      show zS _ 309 _ [.int r17] _
      refine zs_iload hE 1 rfl dL_law_309 ?_
      refine zs_icmp_eq hE 316 (by decide) dL_law_311 ?_ ?_
      · refine zs_iload hE 1 rfl dL_law_316 ?_
        refine zs_if_ne hE 333 (by decide) dL_law_318 ?_ ?_
        · refine zs_aload_n hE 5 rfl rfl dL_law_321 ?_
          refine zs_iconst hE (v := (0 : Int32)) (by decide) dL_law_322 ?_
          refine zs_aldJ hE dL_law_323 (fun v18 => ?_)
          refine zs_iload hE 0 rfl dL_law_324 ?_
          refine zs_i2l hE dL_law_326 ?_
          refine zs_lcmp hE dL_law_327 ?_
          refine zs_if_eq hE 333 (by decide) dL_law_328 ?_ ?_
          · refine zs_goto hE 2380 (by decide) dL_law_333 ?_
            refine zs_iinc hE 7 (v := (5 : Int32)) rfl (by decide) (by decide) (zcat_rf (some x4)) (lv' := [(7, .int r16), (6, .int r14), (0, va_rf x0), (1, va_rf (some x1)), (2, va_rf (some x2)), (3, va_rf (some x3)), (4, va_rf (some x4))]) rfl dL_law_2380 ?_
            refine zs_goto hE 28 (by decide) dL_law_2383 ?_
            refine zs_sub [3, 4, 5, 6, 7, 0] rfl ?_
            exact hs28 (x5 + (5 : Int32))
          · refine zs_iconst hE (v := (0 : Int32)) (by decide) dL_law_331 ?_
            exact zs_zret hE rfl dL_law_332
        · refine zs_goto hE 2380 (by decide) dL_law_333 ?_
          refine zs_iinc hE 7 (v := (5 : Int32)) rfl (by decide) (by decide) (zcat_rf (some x4)) (lv' := [(7, .int r16), (6, .int r14), (0, va_rf x0), (1, va_rf (some x1)), (2, va_rf (some x2)), (3, va_rf (some x3)), (4, va_rf (some x4))]) rfl dL_law_2380 ?_
          refine zs_goto hE 28 (by decide) dL_law_2383 ?_
          refine zs_sub [3, 4, 5, 6, 7, 0] rfl ?_
          exact hs28 (x5 + (5 : Int32))
      · refine zs_iconst hE (v := (0 : Int32)) (by decide) dL_law_314 ?_
        exact zs_zret hE rfl dL_law_315
    · refine zs_aload_n hE 1 rfl rfl dL_law_336 ?_
      refine zs_aload_n hE 0 rfl rfl dL_law_337 ?_
      refine zs_iload hE 5 rfl dL_law_338 ?_
      refine zs_iconst hE (v := (1 : Int32)) (by decide) dL_law_340 ?_
      refine zs_iadd hE dL_law_341 ?_
      refine zs_aldKI hE dL_law_342 (fun v19 => ?_)
      refine zs_aload_n hE 0 rfl rfl dL_law_343 ?_
      refine zs_iload hE 5 rfl dL_law_344 ?_
      refine zs_iconst hE (v := (2 : Int32)) (by decide) dL_law_346 ?_
      refine zs_iadd hE dL_law_347 ?_
      refine zs_aldKI hE dL_law_348 (fun v20 => ?_)
      refine zs_aload_n hE 0 rfl rfl dL_law_349 ?_
      refine zs_iload hE 5 rfl dL_law_350 ?_
      refine zs_iconst hE (v := (3 : Int32)) (by decide) dL_law_352 ?_
      refine zs_iadd hE dL_law_353 ?_
      refine zs_aldKI hE dL_law_354 (fun v21 => ?_)
      refine zs_aload_n hE 0 rfl rfl dL_law_355 ?_
      refine zs_iload hE 5 rfl dL_law_356 ?_
      refine zs_iconst hE (v := (4 : Int32)) (by decide) dL_law_358 ?_
      refine zs_iadd hE dL_law_359 ?_
      refine zs_aldKI hE dL_law_360 (fun v22 => ?_)
      refine zs_aload_n hE 3 rfl rfl dL_law_361 ?_
      refine zs_callSX hE (As := [va_rf (some x1), .int v19, .int v20, .int v21, .int v22, va_rf (some x3)]) (encA := encI) (met_X0_queue K (some x1) v19 v20 v21 v22 (some x3)) q1919 q94 q1917 q1918 hd_X0_queue (by decide) (by decide) rfl (by simp [zcat_rf, zcat_i, zcat_j, zcat_f, zcat_d]) (fun z hz => by cases hz) dL_law_362 (fun r23 => ?_)
      show zS _ 365 _ [.int r23] _
      refine zs_istore hE (i := 6) (by decide) (rfl) (lv' := [(0, va_rf x0), (1, va_rf (some x1)), (2, va_rf (some x2)), (3, va_rf (some x3)), (4, va_rf (some x4)), (5, .int x5)]) rfl dL_law_365 ?_
      refine zs_aload_n hE 3 rfl rfl dL_law_367 ?_
      refine zs_aload_n hE 1 rfl rfl dL_law_368 ?_
      refine zs_iload hE 6 rfl dL_law_369 ?_
      refine zs_iconst hE (v := (1 : Int32)) (by decide) dL_law_371 ?_
      refine zs_iadd hE dL_law_372 ?_
      refine zs_aldKI hE dL_law_373 (fun v24 => ?_)
      refine zs_aload_n hE 1 rfl rfl dL_law_374 ?_
      refine zs_iload hE 6 rfl dL_law_375 ?_
      refine zs_iconst hE (v := (2 : Int32)) (by decide) dL_law_377 ?_
      refine zs_iadd hE dL_law_378 ?_
      refine zs_aldKI hE dL_law_379 (fun v25 => ?_)
      refine zs_aload_n hE 1 rfl rfl dL_law_380 ?_
      refine zs_iload hE 6 rfl dL_law_381 ?_
      refine zs_iconst hE (v := (3 : Int32)) (by decide) dL_law_383 ?_
      refine zs_iadd hE dL_law_384 ?_
      refine zs_aldKI hE dL_law_385 (fun v26 => ?_)
      refine zs_aload_n hE 1 rfl rfl dL_law_386 ?_
      refine zs_iload hE 6 rfl dL_law_387 ?_
      refine zs_iconst hE (v := (4 : Int32)) (by decide) dL_law_389 ?_
      refine zs_iadd hE dL_law_390 ?_
      refine zs_aldKI hE dL_law_391 (fun v27 => ?_)
      refine zs_callV hE (As := [.int v24, .int v25, .int v26, .int v27]) (encA := encI) (ci := 35) rfl (fun y0 => met_X3_queue K y0 v24 v25 v26 v27) q2989 q105 q2986 q2987 (zq q2988) hd_X3_queue (by decide) (by decide) rfl (by simp [zcat_rf, zcat_i, zcat_j, zcat_f, zcat_d]) (fun z hz => by cases hz) dL_law_392 (fun r28 => ?_)
      show zS _ 395 _ [.int r28] _
      refine zs_istore hE (i := 7) (by decide) (rfl) (lv' := [(6, .int r23), (0, va_rf x0), (1, va_rf (some x1)), (2, va_rf (some x2)), (3, va_rf (some x3)), (4, va_rf (some x4)), (5, .int x5)]) rfl dL_law_395 ?_
      refine zs_aload_n hE 4 rfl rfl dL_law_397 ?_
      refine zs_callV hE (As := []) (encA := encI) (ci := 35) rfl (fun y0 => met_X3_thrown K y0) q2912 q105 q2909 q2910 (zq q2911) hd_X3_thrown (by decide) (by decide) rfl (by simp [zcat_rf, zcat_i, zcat_j, zcat_f, zcat_d]) (fun z hz => by cases hz) dL_law_398 (fun r29 => ?_)
      show zS _ 401 _ [.int r29] _
      refine zs_iload hE 1 rfl dL_law_401 ?_
      refine zs_icmp_eq hE 408 (by decide) dL_law_403 ?_ ?_
      · refine zs_iload hE 1 rfl dL_law_408 ?_
        refine zs_if_ne hE 425 (by decide) dL_law_410 ?_ ?_
        · refine zs_aload_n hE 5 rfl rfl dL_law_413 ?_
          refine zs_iconst hE (v := (0 : Int32)) (by decide) dL_law_414 ?_
          refine zs_aldJ hE dL_law_415 (fun v30 => ?_)
          refine zs_iload hE 0 rfl dL_law_416 ?_
          refine zs_i2l hE dL_law_418 ?_
          refine zs_lcmp hE dL_law_419 ?_
          refine zs_if_eq hE 425 (by decide) dL_law_420 ?_ ?_
          · refine zs_goto hE 2380 (by decide) dL_law_425 ?_
            refine zs_iinc hE 7 (v := (5 : Int32)) rfl (by decide) (by decide) (zcat_rf (some x4)) (lv' := [(7, .int r28), (6, .int r23), (0, va_rf x0), (1, va_rf (some x1)), (2, va_rf (some x2)), (3, va_rf (some x3)), (4, va_rf (some x4))]) rfl dL_law_2380 ?_
            refine zs_goto hE 28 (by decide) dL_law_2383 ?_
            refine zs_sub [3, 4, 5, 6, 7, 0] rfl ?_
            exact hs28 (x5 + (5 : Int32))
          · refine zs_iconst hE (v := (0 : Int32)) (by decide) dL_law_423 ?_
            exact zs_zret hE rfl dL_law_424
        · refine zs_goto hE 2380 (by decide) dL_law_425 ?_
          refine zs_iinc hE 7 (v := (5 : Int32)) rfl (by decide) (by decide) (zcat_rf (some x4)) (lv' := [(7, .int r28), (6, .int r23), (0, va_rf x0), (1, va_rf (some x1)), (2, va_rf (some x2)), (3, va_rf (some x3)), (4, va_rf (some x4))]) rfl dL_law_2380 ?_
          refine zs_goto hE 28 (by decide) dL_law_2383 ?_
          refine zs_sub [3, 4, 5, 6, 7, 0] rfl ?_
          exact hs28 (x5 + (5 : Int32))
      · refine zs_iconst hE (v := (0 : Int32)) (by decide) dL_law_406 ?_
        exact zs_zret hE rfl dL_law_407
    · refine zs_aload_n hE 1 rfl rfl dL_law_428 ?_
      refine zs_aload_n hE 0 rfl rfl dL_law_429 ?_
      refine zs_iload hE 5 rfl dL_law_430 ?_
      refine zs_iconst hE (v := (1 : Int32)) (by decide) dL_law_432 ?_
      refine zs_iadd hE dL_law_433 ?_
      refine zs_aldKI hE dL_law_434 (fun v31 => ?_)
      refine zs_aload_n hE 3 rfl rfl dL_law_435 ?_
      refine zs_callSX hE (As := [va_rf (some x1), .int v31, va_rf (some x3)]) (encA := encI) (met_X0_drop K (some x1) v31 (some x3)) q2011 q94 q2009 q2010 hd_X0_drop (by decide) (by decide) rfl (by simp [zcat_rf, zcat_i, zcat_j, zcat_f, zcat_d]) (fun z hz => by cases hz) dL_law_436 (fun r32 => ?_)
      show zS _ 439 _ [.int r32] _
      refine zs_istore hE (i := 6) (by decide) (rfl) (lv' := [(0, va_rf x0), (1, va_rf (some x1)), (2, va_rf (some x2)), (3, va_rf (some x3)), (4, va_rf (some x4)), (5, .int x5)]) rfl dL_law_439 ?_
      refine zs_aload_n hE 3 rfl rfl dL_law_441 ?_
      refine zs_aload_n hE 1 rfl rfl dL_law_442 ?_
      refine zs_iload hE 6 rfl dL_law_443 ?_
      refine zs_iconst hE (v := (1 : Int32)) (by decide) dL_law_445 ?_
      refine zs_iadd hE dL_law_446 ?_
      refine zs_aldKI hE dL_law_447 (fun v33 => ?_)
      refine zs_callV hE (As := [.int v33]) (encA := encI) (ci := 35) rfl (fun y0 => met_X3_drop K y0 v33) q3005 q105 q3002 q3003 (zq q3004) hd_X3_drop (by decide) (by decide) rfl (by simp [zcat_rf, zcat_i, zcat_j, zcat_f, zcat_d]) (fun z hz => by cases hz) dL_law_448 (fun r34 => ?_)
      show zS _ 451 _ [.int r34] _
      refine zs_istore hE (i := 7) (by decide) (rfl) (lv' := [(6, .int r32), (0, va_rf x0), (1, va_rf (some x1)), (2, va_rf (some x2)), (3, va_rf (some x3)), (4, va_rf (some x4)), (5, .int x5)]) rfl dL_law_451 ?_
      refine zs_aload_n hE 4 rfl rfl dL_law_453 ?_
      refine zs_callV hE (As := []) (encA := encI) (ci := 35) rfl (fun y0 => met_X3_thrown K y0) q2912 q105 q2909 q2910 (zq q2911) hd_X3_thrown (by decide) (by decide) rfl (by simp [zcat_rf, zcat_i, zcat_j, zcat_f, zcat_d]) (fun z hz => by cases hz) dL_law_454 (fun r35 => ?_)
      show zS _ 457 _ [.int r35] _
      refine zs_iload hE 1 rfl dL_law_457 ?_
      refine zs_icmp_eq hE 464 (by decide) dL_law_459 ?_ ?_
      · refine zs_iload hE 1 rfl dL_law_464 ?_
        refine zs_if_ne hE 481 (by decide) dL_law_466 ?_ ?_
        · refine zs_aload_n hE 5 rfl rfl dL_law_469 ?_
          refine zs_iconst hE (v := (0 : Int32)) (by decide) dL_law_470 ?_
          refine zs_aldJ hE dL_law_471 (fun v36 => ?_)
          refine zs_iload hE 0 rfl dL_law_472 ?_
          refine zs_i2l hE dL_law_474 ?_
          refine zs_lcmp hE dL_law_475 ?_
          refine zs_if_eq hE 481 (by decide) dL_law_476 ?_ ?_
          · refine zs_goto hE 2380 (by decide) dL_law_481 ?_
            refine zs_iinc hE 7 (v := (5 : Int32)) rfl (by decide) (by decide) (zcat_rf (some x4)) (lv' := [(7, .int r34), (6, .int r32), (0, va_rf x0), (1, va_rf (some x1)), (2, va_rf (some x2)), (3, va_rf (some x3)), (4, va_rf (some x4))]) rfl dL_law_2380 ?_
            refine zs_goto hE 28 (by decide) dL_law_2383 ?_
            refine zs_sub [3, 4, 5, 6, 7, 0] rfl ?_
            exact hs28 (x5 + (5 : Int32))
          · refine zs_iconst hE (v := (0 : Int32)) (by decide) dL_law_479 ?_
            exact zs_zret hE rfl dL_law_480
        · refine zs_goto hE 2380 (by decide) dL_law_481 ?_
          refine zs_iinc hE 7 (v := (5 : Int32)) rfl (by decide) (by decide) (zcat_rf (some x4)) (lv' := [(7, .int r34), (6, .int r32), (0, va_rf x0), (1, va_rf (some x1)), (2, va_rf (some x2)), (3, va_rf (some x3)), (4, va_rf (some x4))]) rfl dL_law_2380 ?_
          refine zs_goto hE 28 (by decide) dL_law_2383 ?_
          refine zs_sub [3, 4, 5, 6, 7, 0] rfl ?_
          exact hs28 (x5 + (5 : Int32))
      · refine zs_iconst hE (v := (0 : Int32)) (by decide) dL_law_462 ?_
        exact zs_zret hE rfl dL_law_463
    · refine zs_aload_n hE 1 rfl rfl dL_law_484 ?_
      refine zs_aload_n hE 0 rfl rfl dL_law_485 ?_
      refine zs_iload hE 5 rfl dL_law_486 ?_
      refine zs_iconst hE (v := (1 : Int32)) (by decide) dL_law_488 ?_
      refine zs_iadd hE dL_law_489 ?_
      refine zs_aldKI hE dL_law_490 (fun v37 => ?_)
      refine zs_aload_n hE 3 rfl rfl dL_law_491 ?_
      refine zs_callSX hE (As := [va_rf (some x1), .int v37, va_rf (some x3)]) (encA := encI) (met_X0_monitor K (some x1) v37 (some x3)) q2030 q94 q2028 q2029 hd_X0_monitor (by decide) (by decide) rfl (by simp [zcat_rf, zcat_i, zcat_j, zcat_f, zcat_d]) (fun z hz => by cases hz) dL_law_492 (fun r38 => ?_)
      show zS _ 495 _ [.int r38] _
      refine zs_istore hE (i := 6) (by decide) (rfl) (lv' := [(0, va_rf x0), (1, va_rf (some x1)), (2, va_rf (some x2)), (3, va_rf (some x3)), (4, va_rf (some x4)), (5, .int x5)]) rfl dL_law_495 ?_
      refine zs_aload_n hE 3 rfl rfl dL_law_497 ?_
      refine zs_aload_n hE 1 rfl rfl dL_law_498 ?_
      refine zs_iload hE 6 rfl dL_law_499 ?_
      refine zs_iconst hE (v := (1 : Int32)) (by decide) dL_law_501 ?_
      refine zs_iadd hE dL_law_502 ?_
      refine zs_aldKI hE dL_law_503 (fun v39 => ?_)
      refine zs_callV hE (As := [.int v39]) (encA := encI) (ci := 35) rfl (fun y0 => met_X3_monitor K y0 v39) q3009 q105 q3006 q3007 (zq q3008) hd_X3_monitor (by decide) (by decide) rfl (by simp [zcat_rf, zcat_i, zcat_j, zcat_f, zcat_d]) (fun z hz => by cases hz) dL_law_504 (fun r40 => ?_)
      show zS _ 507 _ [.int r40] _
      refine zs_istore hE (i := 7) (by decide) (rfl) (lv' := [(6, .int r38), (0, va_rf x0), (1, va_rf (some x1)), (2, va_rf (some x2)), (3, va_rf (some x3)), (4, va_rf (some x4)), (5, .int x5)]) rfl dL_law_507 ?_
      refine zs_aload_n hE 4 rfl rfl dL_law_509 ?_
      refine zs_callV hE (As := []) (encA := encI) (ci := 35) rfl (fun y0 => met_X3_thrown K y0) q2912 q105 q2909 q2910 (zq q2911) hd_X3_thrown (by decide) (by decide) rfl (by simp [zcat_rf, zcat_i, zcat_j, zcat_f, zcat_d]) (fun z hz => by cases hz) dL_law_510 (fun r41 => ?_)
      show zS _ 513 _ [.int r41] _
      refine zs_iload hE 1 rfl dL_law_513 ?_
      refine zs_icmp_eq hE 520 (by decide) dL_law_515 ?_ ?_
      · refine zs_iload hE 1 rfl dL_law_520 ?_
        refine zs_if_ne hE 537 (by decide) dL_law_522 ?_ ?_
        · refine zs_aload_n hE 5 rfl rfl dL_law_525 ?_
          refine zs_iconst hE (v := (0 : Int32)) (by decide) dL_law_526 ?_
          refine zs_aldJ hE dL_law_527 (fun v42 => ?_)
          refine zs_iload hE 0 rfl dL_law_528 ?_
          refine zs_i2l hE dL_law_530 ?_
          refine zs_lcmp hE dL_law_531 ?_
          refine zs_if_eq hE 537 (by decide) dL_law_532 ?_ ?_
          · refine zs_goto hE 2380 (by decide) dL_law_537 ?_
            refine zs_iinc hE 7 (v := (5 : Int32)) rfl (by decide) (by decide) (zcat_rf (some x4)) (lv' := [(7, .int r40), (6, .int r38), (0, va_rf x0), (1, va_rf (some x1)), (2, va_rf (some x2)), (3, va_rf (some x3)), (4, va_rf (some x4))]) rfl dL_law_2380 ?_
            refine zs_goto hE 28 (by decide) dL_law_2383 ?_
            refine zs_sub [3, 4, 5, 6, 7, 0] rfl ?_
            exact hs28 (x5 + (5 : Int32))
          · refine zs_iconst hE (v := (0 : Int32)) (by decide) dL_law_535 ?_
            exact zs_zret hE rfl dL_law_536
        · refine zs_goto hE 2380 (by decide) dL_law_537 ?_
          refine zs_iinc hE 7 (v := (5 : Int32)) rfl (by decide) (by decide) (zcat_rf (some x4)) (lv' := [(7, .int r40), (6, .int r38), (0, va_rf x0), (1, va_rf (some x1)), (2, va_rf (some x2)), (3, va_rf (some x3)), (4, va_rf (some x4))]) rfl dL_law_2380 ?_
          refine zs_goto hE 28 (by decide) dL_law_2383 ?_
          refine zs_sub [3, 4, 5, 6, 7, 0] rfl ?_
          exact hs28 (x5 + (5 : Int32))
      · refine zs_iconst hE (v := (0 : Int32)) (by decide) dL_law_518 ?_
        exact zs_zret hE rfl dL_law_519
    · refine zs_aload_n hE 1 rfl rfl dL_law_540 ?_
      refine zs_aload_n hE 0 rfl rfl dL_law_541 ?_
      refine zs_iload hE 5 rfl dL_law_542 ?_
      refine zs_iconst hE (v := (1 : Int32)) (by decide) dL_law_544 ?_
      refine zs_iadd hE dL_law_545 ?_
      refine zs_aldKI hE dL_law_546 (fun v43 => ?_)
      refine zs_aload_n hE 3 rfl rfl dL_law_547 ?_
      refine zs_callSX hE (As := [va_rf (some x1), .int v43, va_rf (some x3)]) (encA := encI) (met_X0_token K (some x1) v43 (some x3)) q2037 q94 q2035 q2036 hd_X0_token (by decide) (by decide) rfl (by simp [zcat_rf, zcat_i, zcat_j, zcat_f, zcat_d]) (fun z hz => by cases hz) dL_law_548 (fun r44 => ?_)
      show zS _ 551 _ [.int r44] _
      refine zs_istore hE (i := 6) (by decide) (rfl) (lv' := [(0, va_rf x0), (1, va_rf (some x1)), (2, va_rf (some x2)), (3, va_rf (some x3)), (4, va_rf (some x4)), (5, .int x5)]) rfl dL_law_551 ?_
      refine zs_aload_n hE 3 rfl rfl dL_law_553 ?_
      refine zs_aload_n hE 1 rfl rfl dL_law_554 ?_
      refine zs_iload hE 6 rfl dL_law_555 ?_
      refine zs_iconst hE (v := (1 : Int32)) (by decide) dL_law_557 ?_
      refine zs_iadd hE dL_law_558 ?_
      refine zs_aldKI hE dL_law_559 (fun v45 => ?_)
      refine zs_callV hE (As := [.int v45]) (encA := encI) (ci := 35) rfl (fun y0 => met_X3_token K y0 v45) q3021 q105 q3018 q3019 (zq q3020) hd_X3_token (by decide) (by decide) rfl (by simp [zcat_rf, zcat_i, zcat_j, zcat_f, zcat_d]) (fun z hz => by cases hz) dL_law_560 (fun r46 => ?_)
      show zS _ 563 _ [.int r46] _
      refine zs_istore hE (i := 7) (by decide) (rfl) (lv' := [(6, .int r44), (0, va_rf x0), (1, va_rf (some x1)), (2, va_rf (some x2)), (3, va_rf (some x3)), (4, va_rf (some x4)), (5, .int x5)]) rfl dL_law_563 ?_
      refine zs_aload_n hE 4 rfl rfl dL_law_565 ?_
      refine zs_callV hE (As := []) (encA := encI) (ci := 35) rfl (fun y0 => met_X3_thrown K y0) q2912 q105 q2909 q2910 (zq q2911) hd_X3_thrown (by decide) (by decide) rfl (by simp [zcat_rf, zcat_i, zcat_j, zcat_f, zcat_d]) (fun z hz => by cases hz) dL_law_566 (fun r47 => ?_)
      show zS _ 569 _ [.int r47] _
      refine zs_iload hE 1 rfl dL_law_569 ?_
      refine zs_icmp_eq hE 576 (by decide) dL_law_571 ?_ ?_
      · refine zs_iload hE 1 rfl dL_law_576 ?_
        refine zs_if_ne hE 593 (by decide) dL_law_578 ?_ ?_
        · refine zs_aload_n hE 5 rfl rfl dL_law_581 ?_
          refine zs_iconst hE (v := (0 : Int32)) (by decide) dL_law_582 ?_
          refine zs_aldJ hE dL_law_583 (fun v48 => ?_)
          refine zs_iload hE 0 rfl dL_law_584 ?_
          refine zs_i2l hE dL_law_586 ?_
          refine zs_lcmp hE dL_law_587 ?_
          refine zs_if_eq hE 593 (by decide) dL_law_588 ?_ ?_
          · refine zs_goto hE 2380 (by decide) dL_law_593 ?_
            refine zs_iinc hE 7 (v := (5 : Int32)) rfl (by decide) (by decide) (zcat_rf (some x4)) (lv' := [(7, .int r46), (6, .int r44), (0, va_rf x0), (1, va_rf (some x1)), (2, va_rf (some x2)), (3, va_rf (some x3)), (4, va_rf (some x4))]) rfl dL_law_2380 ?_
            refine zs_goto hE 28 (by decide) dL_law_2383 ?_
            refine zs_sub [3, 4, 5, 6, 7, 0] rfl ?_
            exact hs28 (x5 + (5 : Int32))
          · refine zs_iconst hE (v := (0 : Int32)) (by decide) dL_law_591 ?_
            exact zs_zret hE rfl dL_law_592
        · refine zs_goto hE 2380 (by decide) dL_law_593 ?_
          refine zs_iinc hE 7 (v := (5 : Int32)) rfl (by decide) (by decide) (zcat_rf (some x4)) (lv' := [(7, .int r46), (6, .int r44), (0, va_rf x0), (1, va_rf (some x1)), (2, va_rf (some x2)), (3, va_rf (some x3)), (4, va_rf (some x4))]) rfl dL_law_2380 ?_
          refine zs_goto hE 28 (by decide) dL_law_2383 ?_
          refine zs_sub [3, 4, 5, 6, 7, 0] rfl ?_
          exact hs28 (x5 + (5 : Int32))
      · refine zs_iconst hE (v := (0 : Int32)) (by decide) dL_law_574 ?_
        exact zs_zret hE rfl dL_law_575
    · refine zs_aload_n hE 1 rfl rfl dL_law_596 ?_
      refine zs_aload_n hE 3 rfl rfl dL_law_597 ?_
      refine zs_callSX hE (As := [va_rf (some x1), va_rf (some x3)]) (encA := encI) (met_X0_lose K (some x1) (some x3)) q2048 q94 q2046 q2047 hd_X0_lose (by decide) (by decide) rfl (by simp [zcat_rf, zcat_i, zcat_j, zcat_f, zcat_d]) (fun z hz => by cases hz) dL_law_598 (fun r49 => ?_)
      show zS _ 601 _ [.int r49] _
      refine zs_istore hE (i := 6) (by decide) (rfl) (lv' := [(0, va_rf x0), (1, va_rf (some x1)), (2, va_rf (some x2)), (3, va_rf (some x3)), (4, va_rf (some x4)), (5, .int x5)]) rfl dL_law_601 ?_
      refine zs_aload_n hE 3 rfl rfl dL_law_603 ?_
      refine zs_callV hE (As := []) (encA := encI) (ci := 35) rfl (fun y0 => met_X3_lose K y0) q3033 q105 q3030 q3031 (zq q3032) hd_X3_lose (by decide) (by decide) rfl (by simp [zcat_rf, zcat_i, zcat_j, zcat_f, zcat_d]) (fun z hz => by cases hz) dL_law_604 (fun r50 => ?_)
      show zS _ 607 _ [.int r50] _
      refine zs_istore hE (i := 7) (by decide) (rfl) (lv' := [(6, .int r49), (0, va_rf x0), (1, va_rf (some x1)), (2, va_rf (some x2)), (3, va_rf (some x3)), (4, va_rf (some x4)), (5, .int x5)]) rfl dL_law_607 ?_
      refine zs_aload_n hE 4 rfl rfl dL_law_609 ?_
      refine zs_callV hE (As := []) (encA := encI) (ci := 35) rfl (fun y0 => met_X3_thrown K y0) q2912 q105 q2909 q2910 (zq q2911) hd_X3_thrown (by decide) (by decide) rfl (by simp [zcat_rf, zcat_i, zcat_j, zcat_f, zcat_d]) (fun z hz => by cases hz) dL_law_610 (fun r51 => ?_)
      show zS _ 613 _ [.int r51] _
      refine zs_iload hE 1 rfl dL_law_613 ?_
      refine zs_icmp_eq hE 620 (by decide) dL_law_615 ?_ ?_
      · refine zs_iload hE 1 rfl dL_law_620 ?_
        refine zs_if_ne hE 637 (by decide) dL_law_622 ?_ ?_
        · refine zs_aload_n hE 5 rfl rfl dL_law_625 ?_
          refine zs_iconst hE (v := (0 : Int32)) (by decide) dL_law_626 ?_
          refine zs_aldJ hE dL_law_627 (fun v52 => ?_)
          refine zs_iload hE 0 rfl dL_law_628 ?_
          refine zs_i2l hE dL_law_630 ?_
          refine zs_lcmp hE dL_law_631 ?_
          refine zs_if_eq hE 637 (by decide) dL_law_632 ?_ ?_
          · refine zs_goto hE 2380 (by decide) dL_law_637 ?_
            refine zs_iinc hE 7 (v := (5 : Int32)) rfl (by decide) (by decide) (zcat_rf (some x4)) (lv' := [(7, .int r50), (6, .int r49), (0, va_rf x0), (1, va_rf (some x1)), (2, va_rf (some x2)), (3, va_rf (some x3)), (4, va_rf (some x4))]) rfl dL_law_2380 ?_
            refine zs_goto hE 28 (by decide) dL_law_2383 ?_
            refine zs_sub [3, 4, 5, 6, 7, 0] rfl ?_
            exact hs28 (x5 + (5 : Int32))
          · refine zs_iconst hE (v := (0 : Int32)) (by decide) dL_law_635 ?_
            exact zs_zret hE rfl dL_law_636
        · refine zs_goto hE 2380 (by decide) dL_law_637 ?_
          refine zs_iinc hE 7 (v := (5 : Int32)) rfl (by decide) (by decide) (zcat_rf (some x4)) (lv' := [(7, .int r50), (6, .int r49), (0, va_rf x0), (1, va_rf (some x1)), (2, va_rf (some x2)), (3, va_rf (some x3)), (4, va_rf (some x4))]) rfl dL_law_2380 ?_
          refine zs_goto hE 28 (by decide) dL_law_2383 ?_
          refine zs_sub [3, 4, 5, 6, 7, 0] rfl ?_
          exact hs28 (x5 + (5 : Int32))
      · refine zs_iconst hE (v := (0 : Int32)) (by decide) dL_law_618 ?_
        exact zs_zret hE rfl dL_law_619
    · refine zs_aload_n hE 1 rfl rfl dL_law_640 ?_
      refine zs_aload_n hE 0 rfl rfl dL_law_641 ?_
      refine zs_iload hE 5 rfl dL_law_642 ?_
      refine zs_iconst hE (v := (1 : Int32)) (by decide) dL_law_644 ?_
      refine zs_iadd hE dL_law_645 ?_
      refine zs_aldKI hE dL_law_646 (fun v53 => ?_)
      refine zs_aload_n hE 3 rfl rfl dL_law_647 ?_
      refine zs_callSX hE (As := [va_rf (some x1), .int v53, va_rf (some x3)]) (encA := encI) (met_X0_tick K (some x1) v53 (some x3)) q2056 q94 q2054 q2055 hd_X0_tick (by decide) (by decide) rfl (by simp [zcat_rf, zcat_i, zcat_j, zcat_f, zcat_d]) (fun z hz => by cases hz) dL_law_648 (fun r54 => ?_)
      show zS _ 651 _ [.int r54] _
      refine zs_istore hE (i := 6) (by decide) (rfl) (lv' := [(0, va_rf x0), (1, va_rf (some x1)), (2, va_rf (some x2)), (3, va_rf (some x3)), (4, va_rf (some x4)), (5, .int x5)]) rfl dL_law_651 ?_
      refine zs_aload_n hE 3 rfl rfl dL_law_653 ?_
      refine zs_aload_n hE 1 rfl rfl dL_law_654 ?_
      refine zs_iload hE 6 rfl dL_law_655 ?_
      refine zs_iconst hE (v := (1 : Int32)) (by decide) dL_law_657 ?_
      refine zs_iadd hE dL_law_658 ?_
      refine zs_aldKI hE dL_law_659 (fun v55 => ?_)
      refine zs_callV hE (As := [.int v55]) (encA := encI) (ci := 35) rfl (fun y0 => met_X3_tick K y0 v55) q3041 q105 q3038 q3039 (zq q3040) hd_X3_tick (by decide) (by decide) rfl (by simp [zcat_rf, zcat_i, zcat_j, zcat_f, zcat_d]) (fun z hz => by cases hz) dL_law_660 (fun r56 => ?_)
      show zS _ 663 _ [.int r56] _
      refine zs_istore hE (i := 7) (by decide) (rfl) (lv' := [(6, .int r54), (0, va_rf x0), (1, va_rf (some x1)), (2, va_rf (some x2)), (3, va_rf (some x3)), (4, va_rf (some x4)), (5, .int x5)]) rfl dL_law_663 ?_
      refine zs_aload_n hE 4 rfl rfl dL_law_665 ?_
      refine zs_callV hE (As := []) (encA := encI) (ci := 35) rfl (fun y0 => met_X3_thrown K y0) q2912 q105 q2909 q2910 (zq q2911) hd_X3_thrown (by decide) (by decide) rfl (by simp [zcat_rf, zcat_i, zcat_j, zcat_f, zcat_d]) (fun z hz => by cases hz) dL_law_666 (fun r57 => ?_)
      show zS _ 669 _ [.int r57] _
      refine zs_iload hE 1 rfl dL_law_669 ?_
      refine zs_icmp_eq hE 676 (by decide) dL_law_671 ?_ ?_
      · refine zs_iload hE 1 rfl dL_law_676 ?_
        refine zs_if_ne hE 693 (by decide) dL_law_678 ?_ ?_
        · refine zs_aload_n hE 5 rfl rfl dL_law_681 ?_
          refine zs_iconst hE (v := (0 : Int32)) (by decide) dL_law_682 ?_
          refine zs_aldJ hE dL_law_683 (fun v58 => ?_)
          refine zs_iload hE 0 rfl dL_law_684 ?_
          refine zs_i2l hE dL_law_686 ?_
          refine zs_lcmp hE dL_law_687 ?_
          refine zs_if_eq hE 693 (by decide) dL_law_688 ?_ ?_
          · refine zs_goto hE 2380 (by decide) dL_law_693 ?_
            refine zs_iinc hE 7 (v := (5 : Int32)) rfl (by decide) (by decide) (zcat_rf (some x4)) (lv' := [(7, .int r56), (6, .int r54), (0, va_rf x0), (1, va_rf (some x1)), (2, va_rf (some x2)), (3, va_rf (some x3)), (4, va_rf (some x4))]) rfl dL_law_2380 ?_
            refine zs_goto hE 28 (by decide) dL_law_2383 ?_
            refine zs_sub [3, 4, 5, 6, 7, 0] rfl ?_
            exact hs28 (x5 + (5 : Int32))
          · refine zs_iconst hE (v := (0 : Int32)) (by decide) dL_law_691 ?_
            exact zs_zret hE rfl dL_law_692
        · refine zs_goto hE 2380 (by decide) dL_law_693 ?_
          refine zs_iinc hE 7 (v := (5 : Int32)) rfl (by decide) (by decide) (zcat_rf (some x4)) (lv' := [(7, .int r56), (6, .int r54), (0, va_rf x0), (1, va_rf (some x1)), (2, va_rf (some x2)), (3, va_rf (some x3)), (4, va_rf (some x4))]) rfl dL_law_2380 ?_
          refine zs_goto hE 28 (by decide) dL_law_2383 ?_
          refine zs_sub [3, 4, 5, 6, 7, 0] rfl ?_
          exact hs28 (x5 + (5 : Int32))
      · refine zs_iconst hE (v := (0 : Int32)) (by decide) dL_law_674 ?_
        exact zs_zret hE rfl dL_law_675
    · refine zs_aload_n hE 1 rfl rfl dL_law_696 ?_
      refine zs_aload_n hE 0 rfl rfl dL_law_697 ?_
      refine zs_iload hE 5 rfl dL_law_698 ?_
      refine zs_iconst hE (v := (1 : Int32)) (by decide) dL_law_700 ?_
      refine zs_iadd hE dL_law_701 ?_
      refine zs_aldKI hE dL_law_702 (fun v59 => ?_)
      refine zs_aload_n hE 3 rfl rfl dL_law_703 ?_
      refine zs_callSX hE (As := [va_rf (some x1), .int v59, va_rf (some x3)]) (encA := encI) (met_X0_onRing K (some x1) v59 (some x3)) q2132 q94 q2130 q2131 hd_X0_onRing (by decide) (by decide) rfl (by simp [zcat_rf, zcat_i, zcat_j, zcat_f, zcat_d]) (fun z hz => by cases hz) dL_law_704 (fun r60 => ?_)
      show zS _ 707 _ [.int r60] _
      refine zs_istore hE (i := 6) (by decide) (rfl) (lv' := [(0, va_rf x0), (1, va_rf (some x1)), (2, va_rf (some x2)), (3, va_rf (some x3)), (4, va_rf (some x4)), (5, .int x5)]) rfl dL_law_707 ?_
      refine zs_aload_n hE 3 rfl rfl dL_law_709 ?_
      refine zs_aload_n hE 1 rfl rfl dL_law_710 ?_
      refine zs_iload hE 6 rfl dL_law_711 ?_
      refine zs_iconst hE (v := (1 : Int32)) (by decide) dL_law_713 ?_
      refine zs_iadd hE dL_law_714 ?_
      refine zs_aldKI hE dL_law_715 (fun v61 => ?_)
      refine zs_callV hE (As := [.int v61]) (encA := encI) (ci := 35) rfl (fun y0 => met_X3_onRing K y0 v61) q3083 q105 q3080 q3081 (zq q3082) hd_X3_onRing (by decide) (by decide) rfl (by simp [zcat_rf, zcat_i, zcat_j, zcat_f, zcat_d]) (fun z hz => by cases hz) dL_law_716 (fun r62 => ?_)
      show zS _ 719 _ [.int r62] _
      refine zs_istore hE (i := 7) (by decide) (rfl) (lv' := [(6, .int r60), (0, va_rf x0), (1, va_rf (some x1)), (2, va_rf (some x2)), (3, va_rf (some x3)), (4, va_rf (some x4)), (5, .int x5)]) rfl dL_law_719 ?_
      refine zs_aload_n hE 4 rfl rfl dL_law_721 ?_
      refine zs_callV hE (As := []) (encA := encI) (ci := 35) rfl (fun y0 => met_X3_thrown K y0) q2912 q105 q2909 q2910 (zq q2911) hd_X3_thrown (by decide) (by decide) rfl (by simp [zcat_rf, zcat_i, zcat_j, zcat_f, zcat_d]) (fun z hz => by cases hz) dL_law_722 (fun r63 => ?_)
      show zS _ 725 _ [.int r63] _
      refine zs_iload hE 1 rfl dL_law_725 ?_
      refine zs_icmp_eq hE 732 (by decide) dL_law_727 ?_ ?_
      · refine zs_iload hE 1 rfl dL_law_732 ?_
        refine zs_if_ne hE 749 (by decide) dL_law_734 ?_ ?_
        · refine zs_aload_n hE 5 rfl rfl dL_law_737 ?_
          refine zs_iconst hE (v := (0 : Int32)) (by decide) dL_law_738 ?_
          refine zs_aldJ hE dL_law_739 (fun v64 => ?_)
          refine zs_iload hE 0 rfl dL_law_740 ?_
          refine zs_i2l hE dL_law_742 ?_
          refine zs_lcmp hE dL_law_743 ?_
          refine zs_if_eq hE 749 (by decide) dL_law_744 ?_ ?_
          · refine zs_goto hE 2380 (by decide) dL_law_749 ?_
            refine zs_iinc hE 7 (v := (5 : Int32)) rfl (by decide) (by decide) (zcat_rf (some x4)) (lv' := [(7, .int r62), (6, .int r60), (0, va_rf x0), (1, va_rf (some x1)), (2, va_rf (some x2)), (3, va_rf (some x3)), (4, va_rf (some x4))]) rfl dL_law_2380 ?_
            refine zs_goto hE 28 (by decide) dL_law_2383 ?_
            refine zs_sub [3, 4, 5, 6, 7, 0] rfl ?_
            exact hs28 (x5 + (5 : Int32))
          · refine zs_iconst hE (v := (0 : Int32)) (by decide) dL_law_747 ?_
            exact zs_zret hE rfl dL_law_748
        · refine zs_goto hE 2380 (by decide) dL_law_749 ?_
          refine zs_iinc hE 7 (v := (5 : Int32)) rfl (by decide) (by decide) (zcat_rf (some x4)) (lv' := [(7, .int r62), (6, .int r60), (0, va_rf x0), (1, va_rf (some x1)), (2, va_rf (some x2)), (3, va_rf (some x3)), (4, va_rf (some x4))]) rfl dL_law_2380 ?_
          refine zs_goto hE 28 (by decide) dL_law_2383 ?_
          refine zs_sub [3, 4, 5, 6, 7, 0] rfl ?_
          exact hs28 (x5 + (5 : Int32))
      · refine zs_iconst hE (v := (0 : Int32)) (by decide) dL_law_730 ?_
        exact zs_zret hE rfl dL_law_731
    · refine zs_aload_n hE 1 rfl rfl dL_law_752 ?_
      refine zs_aload_n hE 0 rfl rfl dL_law_753 ?_
      refine zs_iload hE 5 rfl dL_law_754 ?_
      refine zs_iconst hE (v := (1 : Int32)) (by decide) dL_law_756 ?_
      refine zs_iadd hE dL_law_757 ?_
      refine zs_aldKI hE dL_law_758 (fun v65 => ?_)
      refine zs_aload_n hE 3 rfl rfl dL_law_759 ?_
      refine zs_callSX hE (As := [va_rf (some x1), .int v65, va_rf (some x3)]) (encA := encI) (met_X0_stationAt K (some x1) v65 (some x3)) q2148 q94 q2146 q2147 hd_X0_stationAt (by decide) (by decide) rfl (by simp [zcat_rf, zcat_i, zcat_j, zcat_f, zcat_d]) (fun z hz => by cases hz) dL_law_760 (fun r66 => ?_)
      show zS _ 763 _ [.int r66] _
      refine zs_istore hE (i := 6) (by decide) (rfl) (lv' := [(0, va_rf x0), (1, va_rf (some x1)), (2, va_rf (some x2)), (3, va_rf (some x3)), (4, va_rf (some x4)), (5, .int x5)]) rfl dL_law_763 ?_
      refine zs_aload_n hE 3 rfl rfl dL_law_765 ?_
      refine zs_aload_n hE 1 rfl rfl dL_law_766 ?_
      refine zs_iload hE 6 rfl dL_law_767 ?_
      refine zs_iconst hE (v := (1 : Int32)) (by decide) dL_law_769 ?_
      refine zs_iadd hE dL_law_770 ?_
      refine zs_aldKI hE dL_law_771 (fun v67 => ?_)
      refine zs_callV hE (As := [.int v67]) (encA := encI) (ci := 35) rfl (fun y0 => met_X3_stationAt K y0 v67) q3087 q105 q3084 q3085 (zq q3086) hd_X3_stationAt (by decide) (by decide) rfl (by simp [zcat_rf, zcat_i, zcat_j, zcat_f, zcat_d]) (fun z hz => by cases hz) dL_law_772 (fun r68 => ?_)
      show zS _ 775 _ [.int r68] _
      refine zs_istore hE (i := 7) (by decide) (rfl) (lv' := [(6, .int r66), (0, va_rf x0), (1, va_rf (some x1)), (2, va_rf (some x2)), (3, va_rf (some x3)), (4, va_rf (some x4)), (5, .int x5)]) rfl dL_law_775 ?_
      refine zs_aload_n hE 4 rfl rfl dL_law_777 ?_
      refine zs_callV hE (As := []) (encA := encI) (ci := 35) rfl (fun y0 => met_X3_thrown K y0) q2912 q105 q2909 q2910 (zq q2911) hd_X3_thrown (by decide) (by decide) rfl (by simp [zcat_rf, zcat_i, zcat_j, zcat_f, zcat_d]) (fun z hz => by cases hz) dL_law_778 (fun r69 => ?_)
      show zS _ 781 _ [.int r69] _
      refine zs_iload hE 1 rfl dL_law_781 ?_
      refine zs_icmp_eq hE 788 (by decide) dL_law_783 ?_ ?_
      · refine zs_iload hE 1 rfl dL_law_788 ?_
        refine zs_if_ne hE 805 (by decide) dL_law_790 ?_ ?_
        · refine zs_aload_n hE 5 rfl rfl dL_law_793 ?_
          refine zs_iconst hE (v := (0 : Int32)) (by decide) dL_law_794 ?_
          refine zs_aldJ hE dL_law_795 (fun v70 => ?_)
          refine zs_iload hE 0 rfl dL_law_796 ?_
          refine zs_i2l hE dL_law_798 ?_
          refine zs_lcmp hE dL_law_799 ?_
          refine zs_if_eq hE 805 (by decide) dL_law_800 ?_ ?_
          · refine zs_goto hE 2380 (by decide) dL_law_805 ?_
            refine zs_iinc hE 7 (v := (5 : Int32)) rfl (by decide) (by decide) (zcat_rf (some x4)) (lv' := [(7, .int r68), (6, .int r66), (0, va_rf x0), (1, va_rf (some x1)), (2, va_rf (some x2)), (3, va_rf (some x3)), (4, va_rf (some x4))]) rfl dL_law_2380 ?_
            refine zs_goto hE 28 (by decide) dL_law_2383 ?_
            refine zs_sub [3, 4, 5, 6, 7, 0] rfl ?_
            exact hs28 (x5 + (5 : Int32))
          · refine zs_iconst hE (v := (0 : Int32)) (by decide) dL_law_803 ?_
            exact zs_zret hE rfl dL_law_804
        · refine zs_goto hE 2380 (by decide) dL_law_805 ?_
          refine zs_iinc hE 7 (v := (5 : Int32)) rfl (by decide) (by decide) (zcat_rf (some x4)) (lv' := [(7, .int r68), (6, .int r66), (0, va_rf x0), (1, va_rf (some x1)), (2, va_rf (some x2)), (3, va_rf (some x3)), (4, va_rf (some x4))]) rfl dL_law_2380 ?_
          refine zs_goto hE 28 (by decide) dL_law_2383 ?_
          refine zs_sub [3, 4, 5, 6, 7, 0] rfl ?_
          exact hs28 (x5 + (5 : Int32))
      · refine zs_iconst hE (v := (0 : Int32)) (by decide) dL_law_786 ?_
        exact zs_zret hE rfl dL_law_787
    · refine zs_aload_n hE 1 rfl rfl dL_law_808 ?_
      refine zs_aload_n hE 0 rfl rfl dL_law_809 ?_
      refine zs_iload hE 5 rfl dL_law_810 ?_
      refine zs_iconst hE (v := (1 : Int32)) (by decide) dL_law_812 ?_
      refine zs_iadd hE dL_law_813 ?_
      refine zs_aldKI hE dL_law_814 (fun v71 => ?_)
      refine zs_aload_n hE 0 rfl rfl dL_law_815 ?_
      refine zs_iload hE 5 rfl dL_law_816 ?_
      refine zs_iconst hE (v := (2 : Int32)) (by decide) dL_law_818 ?_
      refine zs_iadd hE dL_law_819 ?_
      refine zs_aldKI hE dL_law_820 (fun v72 => ?_)
      refine zs_aload_n hE 3 rfl rfl dL_law_821 ?_
      refine zs_callSX hE (As := [va_rf (some x1), .int v71, .int v72, va_rf (some x3)]) (encA := encI) (met_X0_waits K (some x1) v71 v72 (some x3)) q2161 q94 q2159 q2160 hd_X0_waits (by decide) (by decide) rfl (by simp [zcat_rf, zcat_i, zcat_j, zcat_f, zcat_d]) (fun z hz => by cases hz) dL_law_822 (fun r73 => ?_)
      show zS _ 825 _ [.int r73] _
      refine zs_istore hE (i := 6) (by decide) (rfl) (lv' := [(0, va_rf x0), (1, va_rf (some x1)), (2, va_rf (some x2)), (3, va_rf (some x3)), (4, va_rf (some x4)), (5, .int x5)]) rfl dL_law_825 ?_
      refine zs_aload_n hE 3 rfl rfl dL_law_827 ?_
      refine zs_aload_n hE 1 rfl rfl dL_law_828 ?_
      refine zs_iload hE 6 rfl dL_law_829 ?_
      refine zs_iconst hE (v := (1 : Int32)) (by decide) dL_law_831 ?_
      refine zs_iadd hE dL_law_832 ?_
      refine zs_aldKI hE dL_law_833 (fun v74 => ?_)
      refine zs_aload_n hE 1 rfl rfl dL_law_834 ?_
      refine zs_iload hE 6 rfl dL_law_835 ?_
      refine zs_iconst hE (v := (2 : Int32)) (by decide) dL_law_837 ?_
      refine zs_iadd hE dL_law_838 ?_
      refine zs_aldKI hE dL_law_839 (fun v75 => ?_)
      refine zs_callV hE (As := [.int v74, .int v75]) (encA := encI) (ci := 35) rfl (fun y0 => met_X3_waits K y0 v74 v75) q3091 q105 q3088 q3089 (zq q3090) hd_X3_waits (by decide) (by decide) rfl (by simp [zcat_rf, zcat_i, zcat_j, zcat_f, zcat_d]) (fun z hz => by cases hz) dL_law_840 (fun r76 => ?_)
      show zS _ 843 _ [.int r76] _
      refine zs_istore hE (i := 7) (by decide) (rfl) (lv' := [(6, .int r73), (0, va_rf x0), (1, va_rf (some x1)), (2, va_rf (some x2)), (3, va_rf (some x3)), (4, va_rf (some x4)), (5, .int x5)]) rfl dL_law_843 ?_
      refine zs_aload_n hE 4 rfl rfl dL_law_845 ?_
      refine zs_callV hE (As := []) (encA := encI) (ci := 35) rfl (fun y0 => met_X3_thrown K y0) q2912 q105 q2909 q2910 (zq q2911) hd_X3_thrown (by decide) (by decide) rfl (by simp [zcat_rf, zcat_i, zcat_j, zcat_f, zcat_d]) (fun z hz => by cases hz) dL_law_846 (fun r77 => ?_)
      show zS _ 849 _ [.int r77] _
      refine zs_iload hE 1 rfl dL_law_849 ?_
      refine zs_icmp_eq hE 856 (by decide) dL_law_851 ?_ ?_
      · refine zs_iload hE 1 rfl dL_law_856 ?_
        refine zs_if_ne hE 873 (by decide) dL_law_858 ?_ ?_
        · refine zs_aload_n hE 5 rfl rfl dL_law_861 ?_
          refine zs_iconst hE (v := (0 : Int32)) (by decide) dL_law_862 ?_
          refine zs_aldJ hE dL_law_863 (fun v78 => ?_)
          refine zs_iload hE 0 rfl dL_law_864 ?_
          refine zs_i2l hE dL_law_866 ?_
          refine zs_lcmp hE dL_law_867 ?_
          refine zs_if_eq hE 873 (by decide) dL_law_868 ?_ ?_
          · refine zs_goto hE 2380 (by decide) dL_law_873 ?_
            refine zs_iinc hE 7 (v := (5 : Int32)) rfl (by decide) (by decide) (zcat_rf (some x4)) (lv' := [(7, .int r76), (6, .int r73), (0, va_rf x0), (1, va_rf (some x1)), (2, va_rf (some x2)), (3, va_rf (some x3)), (4, va_rf (some x4))]) rfl dL_law_2380 ?_
            refine zs_goto hE 28 (by decide) dL_law_2383 ?_
            refine zs_sub [3, 4, 5, 6, 7, 0] rfl ?_
            exact hs28 (x5 + (5 : Int32))
          · refine zs_iconst hE (v := (0 : Int32)) (by decide) dL_law_871 ?_
            exact zs_zret hE rfl dL_law_872
        · refine zs_goto hE 2380 (by decide) dL_law_873 ?_
          refine zs_iinc hE 7 (v := (5 : Int32)) rfl (by decide) (by decide) (zcat_rf (some x4)) (lv' := [(7, .int r76), (6, .int r73), (0, va_rf x0), (1, va_rf (some x1)), (2, va_rf (some x2)), (3, va_rf (some x3)), (4, va_rf (some x4))]) rfl dL_law_2380 ?_
          refine zs_goto hE 28 (by decide) dL_law_2383 ?_
          refine zs_sub [3, 4, 5, 6, 7, 0] rfl ?_
          exact hs28 (x5 + (5 : Int32))
      · refine zs_iconst hE (v := (0 : Int32)) (by decide) dL_law_854 ?_
        exact zs_zret hE rfl dL_law_855
    · refine zs_aload_n hE 1 rfl rfl dL_law_876 ?_
      refine zs_aload_n hE 0 rfl rfl dL_law_877 ?_
      refine zs_iload hE 5 rfl dL_law_878 ?_
      refine zs_iconst hE (v := (1 : Int32)) (by decide) dL_law_880 ?_
      refine zs_iadd hE dL_law_881 ?_
      refine zs_aldKI hE dL_law_882 (fun v79 => ?_)
      refine zs_aload_n hE 3 rfl rfl dL_law_883 ?_
      refine zs_callSX hE (As := [va_rf (some x1), .int v79, va_rf (some x3)]) (encA := encI) (met_X0_rankOf K (some x1) v79 (some x3)) q2184 q94 q2182 q2183 hd_X0_rankOf (by decide) (by decide) rfl (by simp [zcat_rf, zcat_i, zcat_j, zcat_f, zcat_d]) (fun z hz => by cases hz) dL_law_884 (fun r80 => ?_)
      show zS _ 887 _ [.int r80] _
      refine zs_istore hE (i := 6) (by decide) (rfl) (lv' := [(0, va_rf x0), (1, va_rf (some x1)), (2, va_rf (some x2)), (3, va_rf (some x3)), (4, va_rf (some x4)), (5, .int x5)]) rfl dL_law_887 ?_
      refine zs_aload_n hE 3 rfl rfl dL_law_889 ?_
      refine zs_aload_n hE 1 rfl rfl dL_law_890 ?_
      refine zs_iload hE 6 rfl dL_law_891 ?_
      refine zs_iconst hE (v := (1 : Int32)) (by decide) dL_law_893 ?_
      refine zs_iadd hE dL_law_894 ?_
      refine zs_aldKI hE dL_law_895 (fun v81 => ?_)
      refine zs_callV hE (As := [.int v81]) (encA := encI) (ci := 35) rfl (fun y0 => met_X3_rankOf K y0 v81) q3095 q105 q3092 q3093 (zq q3094) hd_X3_rankOf (by decide) (by decide) rfl (by simp [zcat_rf, zcat_i, zcat_j, zcat_f, zcat_d]) (fun z hz => by cases hz) dL_law_896 (fun r82 => ?_)
      show zS _ 899 _ [.int r82] _
      refine zs_istore hE (i := 7) (by decide) (rfl) (lv' := [(6, .int r80), (0, va_rf x0), (1, va_rf (some x1)), (2, va_rf (some x2)), (3, va_rf (some x3)), (4, va_rf (some x4)), (5, .int x5)]) rfl dL_law_899 ?_
      refine zs_aload_n hE 4 rfl rfl dL_law_901 ?_
      refine zs_callV hE (As := []) (encA := encI) (ci := 35) rfl (fun y0 => met_X3_thrown K y0) q2912 q105 q2909 q2910 (zq q2911) hd_X3_thrown (by decide) (by decide) rfl (by simp [zcat_rf, zcat_i, zcat_j, zcat_f, zcat_d]) (fun z hz => by cases hz) dL_law_902 (fun r83 => ?_)
      show zS _ 905 _ [.int r83] _
      refine zs_iload hE 1 rfl dL_law_905 ?_
      refine zs_icmp_eq hE 912 (by decide) dL_law_907 ?_ ?_
      · refine zs_iload hE 1 rfl dL_law_912 ?_
        refine zs_if_ne hE 929 (by decide) dL_law_914 ?_ ?_
        · refine zs_aload_n hE 5 rfl rfl dL_law_917 ?_
          refine zs_iconst hE (v := (0 : Int32)) (by decide) dL_law_918 ?_
          refine zs_aldJ hE dL_law_919 (fun v84 => ?_)
          refine zs_iload hE 0 rfl dL_law_920 ?_
          refine zs_i2l hE dL_law_922 ?_
          refine zs_lcmp hE dL_law_923 ?_
          refine zs_if_eq hE 929 (by decide) dL_law_924 ?_ ?_
          · refine zs_goto hE 2380 (by decide) dL_law_929 ?_
            refine zs_iinc hE 7 (v := (5 : Int32)) rfl (by decide) (by decide) (zcat_rf (some x4)) (lv' := [(7, .int r82), (6, .int r80), (0, va_rf x0), (1, va_rf (some x1)), (2, va_rf (some x2)), (3, va_rf (some x3)), (4, va_rf (some x4))]) rfl dL_law_2380 ?_
            refine zs_goto hE 28 (by decide) dL_law_2383 ?_
            refine zs_sub [3, 4, 5, 6, 7, 0] rfl ?_
            exact hs28 (x5 + (5 : Int32))
          · refine zs_iconst hE (v := (0 : Int32)) (by decide) dL_law_927 ?_
            exact zs_zret hE rfl dL_law_928
        · refine zs_goto hE 2380 (by decide) dL_law_929 ?_
          refine zs_iinc hE 7 (v := (5 : Int32)) rfl (by decide) (by decide) (zcat_rf (some x4)) (lv' := [(7, .int r82), (6, .int r80), (0, va_rf x0), (1, va_rf (some x1)), (2, va_rf (some x2)), (3, va_rf (some x3)), (4, va_rf (some x4))]) rfl dL_law_2380 ?_
          refine zs_goto hE 28 (by decide) dL_law_2383 ?_
          refine zs_sub [3, 4, 5, 6, 7, 0] rfl ?_
          exact hs28 (x5 + (5 : Int32))
      · refine zs_iconst hE (v := (0 : Int32)) (by decide) dL_law_910 ?_
        exact zs_zret hE rfl dL_law_911
    · refine zs_aload_n hE 1 rfl rfl dL_law_932 ?_
      refine zs_aload_n hE 0 rfl rfl dL_law_933 ?_
      refine zs_iload hE 5 rfl dL_law_934 ?_
      refine zs_iconst hE (v := (1 : Int32)) (by decide) dL_law_936 ?_
      refine zs_iadd hE dL_law_937 ?_
      refine zs_aldKI hE dL_law_938 (fun v85 => ?_)
      refine zs_aload_n hE 3 rfl rfl dL_law_939 ?_
      refine zs_callSX hE (As := [va_rf (some x1), .int v85, va_rf (some x3)]) (encA := encI) (met_X0_whereIs K (some x1) v85 (some x3)) q2202 q94 q2200 q2201 hd_X0_whereIs (by decide) (by decide) rfl (by simp [zcat_rf, zcat_i, zcat_j, zcat_f, zcat_d]) (fun z hz => by cases hz) dL_law_940 (fun r86 => ?_)
      show zS _ 943 _ [.int r86] _
      refine zs_istore hE (i := 6) (by decide) (rfl) (lv' := [(0, va_rf x0), (1, va_rf (some x1)), (2, va_rf (some x2)), (3, va_rf (some x3)), (4, va_rf (some x4)), (5, .int x5)]) rfl dL_law_943 ?_
      refine zs_aload_n hE 3 rfl rfl dL_law_945 ?_
      refine zs_aload_n hE 1 rfl rfl dL_law_946 ?_
      refine zs_iload hE 6 rfl dL_law_947 ?_
      refine zs_iconst hE (v := (1 : Int32)) (by decide) dL_law_949 ?_
      refine zs_iadd hE dL_law_950 ?_
      refine zs_aldKI hE dL_law_951 (fun v87 => ?_)
      refine zs_callV hE (As := [.int v87]) (encA := encI) (ci := 35) rfl (fun y0 => met_X3_whereIs K y0 v87) q3107 q105 q3104 q3105 (zq q3106) hd_X3_whereIs (by decide) (by decide) rfl (by simp [zcat_rf, zcat_i, zcat_j, zcat_f, zcat_d]) (fun z hz => by cases hz) dL_law_952 (fun r88 => ?_)
      show zS _ 955 _ [.int r88] _
      refine zs_istore hE (i := 7) (by decide) (rfl) (lv' := [(6, .int r86), (0, va_rf x0), (1, va_rf (some x1)), (2, va_rf (some x2)), (3, va_rf (some x3)), (4, va_rf (some x4)), (5, .int x5)]) rfl dL_law_955 ?_
      refine zs_aload_n hE 4 rfl rfl dL_law_957 ?_
      refine zs_callV hE (As := []) (encA := encI) (ci := 35) rfl (fun y0 => met_X3_thrown K y0) q2912 q105 q2909 q2910 (zq q2911) hd_X3_thrown (by decide) (by decide) rfl (by simp [zcat_rf, zcat_i, zcat_j, zcat_f, zcat_d]) (fun z hz => by cases hz) dL_law_958 (fun r89 => ?_)
      show zS _ 961 _ [.int r89] _
      refine zs_iload hE 1 rfl dL_law_961 ?_
      refine zs_icmp_eq hE 968 (by decide) dL_law_963 ?_ ?_
      · refine zs_iload hE 1 rfl dL_law_968 ?_
        refine zs_if_ne hE 985 (by decide) dL_law_970 ?_ ?_
        · refine zs_aload_n hE 5 rfl rfl dL_law_973 ?_
          refine zs_iconst hE (v := (0 : Int32)) (by decide) dL_law_974 ?_
          refine zs_aldJ hE dL_law_975 (fun v90 => ?_)
          refine zs_iload hE 0 rfl dL_law_976 ?_
          refine zs_i2l hE dL_law_978 ?_
          refine zs_lcmp hE dL_law_979 ?_
          refine zs_if_eq hE 985 (by decide) dL_law_980 ?_ ?_
          · refine zs_goto hE 2380 (by decide) dL_law_985 ?_
            refine zs_iinc hE 7 (v := (5 : Int32)) rfl (by decide) (by decide) (zcat_rf (some x4)) (lv' := [(7, .int r88), (6, .int r86), (0, va_rf x0), (1, va_rf (some x1)), (2, va_rf (some x2)), (3, va_rf (some x3)), (4, va_rf (some x4))]) rfl dL_law_2380 ?_
            refine zs_goto hE 28 (by decide) dL_law_2383 ?_
            refine zs_sub [3, 4, 5, 6, 7, 0] rfl ?_
            exact hs28 (x5 + (5 : Int32))
          · refine zs_iconst hE (v := (0 : Int32)) (by decide) dL_law_983 ?_
            exact zs_zret hE rfl dL_law_984
        · refine zs_goto hE 2380 (by decide) dL_law_985 ?_
          refine zs_iinc hE 7 (v := (5 : Int32)) rfl (by decide) (by decide) (zcat_rf (some x4)) (lv' := [(7, .int r88), (6, .int r86), (0, va_rf x0), (1, va_rf (some x1)), (2, va_rf (some x2)), (3, va_rf (some x3)), (4, va_rf (some x4))]) rfl dL_law_2380 ?_
          refine zs_goto hE 28 (by decide) dL_law_2383 ?_
          refine zs_sub [3, 4, 5, 6, 7, 0] rfl ?_
          exact hs28 (x5 + (5 : Int32))
      · refine zs_iconst hE (v := (0 : Int32)) (by decide) dL_law_966 ?_
        exact zs_zret hE rfl dL_law_967
    · refine zs_aload_n hE 1 rfl rfl dL_law_988 ?_
      refine zs_aload_n hE 0 rfl rfl dL_law_989 ?_
      refine zs_iload hE 5 rfl dL_law_990 ?_
      refine zs_iconst hE (v := (1 : Int32)) (by decide) dL_law_992 ?_
      refine zs_iadd hE dL_law_993 ?_
      refine zs_aldKI hE dL_law_994 (fun v91 => ?_)
      refine zs_aload_n hE 0 rfl rfl dL_law_995 ?_
      refine zs_iload hE 5 rfl dL_law_996 ?_
      refine zs_iconst hE (v := (2 : Int32)) (by decide) dL_law_998 ?_
      refine zs_iadd hE dL_law_999 ?_
      refine zs_aldKI hE dL_law_1000 (fun v92 => ?_)
      refine zs_aload_n hE 3 rfl rfl dL_law_1001 ?_
      refine zs_callSX hE (As := [va_rf (some x1), .int v91, .int v92, va_rf (some x3)]) (encA := encI) (met_X0_queueOf K (some x1) v91 v92 (some x3)) q2209 q94 q2207 q2208 hd_X0_queueOf (by decide) (by decide) rfl (by simp [zcat_rf, zcat_i, zcat_j, zcat_f, zcat_d]) (fun z hz => by cases hz) dL_law_1002 (fun r93 => ?_)
      show zS _ 1005 _ [.int r93] _
      refine zs_istore hE (i := 6) (by decide) (rfl) (lv' := [(0, va_rf x0), (1, va_rf (some x1)), (2, va_rf (some x2)), (3, va_rf (some x3)), (4, va_rf (some x4)), (5, .int x5)]) rfl dL_law_1005 ?_
      refine zs_aload_n hE 3 rfl rfl dL_law_1007 ?_
      refine zs_aload_n hE 1 rfl rfl dL_law_1008 ?_
      refine zs_iload hE 6 rfl dL_law_1009 ?_
      refine zs_iconst hE (v := (1 : Int32)) (by decide) dL_law_1011 ?_
      refine zs_iadd hE dL_law_1012 ?_
      refine zs_aldKI hE dL_law_1013 (fun v94 => ?_)
      refine zs_aload_n hE 1 rfl rfl dL_law_1014 ?_
      refine zs_iload hE 6 rfl dL_law_1015 ?_
      refine zs_iconst hE (v := (2 : Int32)) (by decide) dL_law_1017 ?_
      refine zs_iadd hE dL_law_1018 ?_
      refine zs_aldKI hE dL_law_1019 (fun v95 => ?_)
      refine zs_callV hE (As := [.int v94, .int v95]) (encA := encI) (ci := 35) rfl (fun y0 => met_X3_queueOf K y0 v94 v95) q3111 q105 q3108 q3109 (zq q3110) hd_X3_queueOf (by decide) (by decide) rfl (by simp [zcat_rf, zcat_i, zcat_j, zcat_f, zcat_d]) (fun z hz => by cases hz) dL_law_1020 (fun r96 => ?_)
      show zS _ 1023 _ [.int r96] _
      refine zs_istore hE (i := 7) (by decide) (rfl) (lv' := [(6, .int r93), (0, va_rf x0), (1, va_rf (some x1)), (2, va_rf (some x2)), (3, va_rf (some x3)), (4, va_rf (some x4)), (5, .int x5)]) rfl dL_law_1023 ?_
      refine zs_aload_n hE 4 rfl rfl dL_law_1025 ?_
      refine zs_callV hE (As := []) (encA := encI) (ci := 35) rfl (fun y0 => met_X3_thrown K y0) q2912 q105 q2909 q2910 (zq q2911) hd_X3_thrown (by decide) (by decide) rfl (by simp [zcat_rf, zcat_i, zcat_j, zcat_f, zcat_d]) (fun z hz => by cases hz) dL_law_1026 (fun r97 => ?_)
      show zS _ 1029 _ [.int r97] _
      refine zs_iload hE 1 rfl dL_law_1029 ?_
      refine zs_icmp_eq hE 1036 (by decide) dL_law_1031 ?_ ?_
      · refine zs_iload hE 1 rfl dL_law_1036 ?_
        refine zs_if_ne hE 1053 (by decide) dL_law_1038 ?_ ?_
        · refine zs_aload_n hE 5 rfl rfl dL_law_1041 ?_
          refine zs_iconst hE (v := (0 : Int32)) (by decide) dL_law_1042 ?_
          refine zs_aldJ hE dL_law_1043 (fun v98 => ?_)
          refine zs_iload hE 0 rfl dL_law_1044 ?_
          refine zs_i2l hE dL_law_1046 ?_
          refine zs_lcmp hE dL_law_1047 ?_
          refine zs_if_eq hE 1053 (by decide) dL_law_1048 ?_ ?_
          · refine zs_goto hE 2380 (by decide) dL_law_1053 ?_
            refine zs_iinc hE 7 (v := (5 : Int32)) rfl (by decide) (by decide) (zcat_rf (some x4)) (lv' := [(7, .int r96), (6, .int r93), (0, va_rf x0), (1, va_rf (some x1)), (2, va_rf (some x2)), (3, va_rf (some x3)), (4, va_rf (some x4))]) rfl dL_law_2380 ?_
            refine zs_goto hE 28 (by decide) dL_law_2383 ?_
            refine zs_sub [3, 4, 5, 6, 7, 0] rfl ?_
            exact hs28 (x5 + (5 : Int32))
          · refine zs_iconst hE (v := (0 : Int32)) (by decide) dL_law_1051 ?_
            exact zs_zret hE rfl dL_law_1052
        · refine zs_goto hE 2380 (by decide) dL_law_1053 ?_
          refine zs_iinc hE 7 (v := (5 : Int32)) rfl (by decide) (by decide) (zcat_rf (some x4)) (lv' := [(7, .int r96), (6, .int r93), (0, va_rf x0), (1, va_rf (some x1)), (2, va_rf (some x2)), (3, va_rf (some x3)), (4, va_rf (some x4))]) rfl dL_law_2380 ?_
          refine zs_goto hE 28 (by decide) dL_law_2383 ?_
          refine zs_sub [3, 4, 5, 6, 7, 0] rfl ?_
          exact hs28 (x5 + (5 : Int32))
      · refine zs_iconst hE (v := (0 : Int32)) (by decide) dL_law_1034 ?_
        exact zs_zret hE rfl dL_law_1035
    · refine zs_aload_n hE 1 rfl rfl dL_law_1056 ?_
      refine zs_aload_n hE 0 rfl rfl dL_law_1057 ?_
      refine zs_iload hE 5 rfl dL_law_1058 ?_
      refine zs_iconst hE (v := (1 : Int32)) (by decide) dL_law_1060 ?_
      refine zs_iadd hE dL_law_1061 ?_
      refine zs_aldKI hE dL_law_1062 (fun v99 => ?_)
      refine zs_aload_n hE 3 rfl rfl dL_law_1063 ?_
      refine zs_callSX hE (As := [va_rf (some x1), .int v99, va_rf (some x3)]) (encA := encI) (met_X0_next K (some x1) v99 (some x3)) q2221 q94 q2219 q2220 hd_X0_next (by decide) (by decide) rfl (by simp [zcat_rf, zcat_i, zcat_j, zcat_f, zcat_d]) (fun z hz => by cases hz) dL_law_1064 (fun r100 => ?_)
      show zS _ 1067 _ [.int r100] _
      refine zs_istore hE (i := 6) (by decide) (rfl) (lv' := [(0, va_rf x0), (1, va_rf (some x1)), (2, va_rf (some x2)), (3, va_rf (some x3)), (4, va_rf (some x4)), (5, .int x5)]) rfl dL_law_1067 ?_
      refine zs_aload_n hE 3 rfl rfl dL_law_1069 ?_
      refine zs_aload_n hE 1 rfl rfl dL_law_1070 ?_
      refine zs_iload hE 6 rfl dL_law_1071 ?_
      refine zs_iconst hE (v := (1 : Int32)) (by decide) dL_law_1073 ?_
      refine zs_iadd hE dL_law_1074 ?_
      refine zs_aldKI hE dL_law_1075 (fun v101 => ?_)
      refine zs_callV hE (As := [.int v101]) (encA := encI) (ci := 35) rfl (fun y0 => met_X3_next K y0 v101) q3123 q105 q3120 q3121 (zq q3122) hd_X3_next (by decide) (by decide) rfl (by simp [zcat_rf, zcat_i, zcat_j, zcat_f, zcat_d]) (fun z hz => by cases hz) dL_law_1076 (fun r102 => ?_)
      show zS _ 1079 _ [.int r102] _
      refine zs_istore hE (i := 7) (by decide) (rfl) (lv' := [(6, .int r100), (0, va_rf x0), (1, va_rf (some x1)), (2, va_rf (some x2)), (3, va_rf (some x3)), (4, va_rf (some x4)), (5, .int x5)]) rfl dL_law_1079 ?_
      refine zs_aload_n hE 4 rfl rfl dL_law_1081 ?_
      refine zs_callV hE (As := []) (encA := encI) (ci := 35) rfl (fun y0 => met_X3_thrown K y0) q2912 q105 q2909 q2910 (zq q2911) hd_X3_thrown (by decide) (by decide) rfl (by simp [zcat_rf, zcat_i, zcat_j, zcat_f, zcat_d]) (fun z hz => by cases hz) dL_law_1082 (fun r103 => ?_)
      show zS _ 1085 _ [.int r103] _
      refine zs_iload hE 1 rfl dL_law_1085 ?_
      refine zs_icmp_eq hE 1092 (by decide) dL_law_1087 ?_ ?_
      · refine zs_iload hE 1 rfl dL_law_1092 ?_
        refine zs_if_ne hE 1109 (by decide) dL_law_1094 ?_ ?_
        · refine zs_aload_n hE 5 rfl rfl dL_law_1097 ?_
          refine zs_iconst hE (v := (0 : Int32)) (by decide) dL_law_1098 ?_
          refine zs_aldJ hE dL_law_1099 (fun v104 => ?_)
          refine zs_iload hE 0 rfl dL_law_1100 ?_
          refine zs_i2l hE dL_law_1102 ?_
          refine zs_lcmp hE dL_law_1103 ?_
          refine zs_if_eq hE 1109 (by decide) dL_law_1104 ?_ ?_
          · refine zs_goto hE 2380 (by decide) dL_law_1109 ?_
            refine zs_iinc hE 7 (v := (5 : Int32)) rfl (by decide) (by decide) (zcat_rf (some x4)) (lv' := [(7, .int r102), (6, .int r100), (0, va_rf x0), (1, va_rf (some x1)), (2, va_rf (some x2)), (3, va_rf (some x3)), (4, va_rf (some x4))]) rfl dL_law_2380 ?_
            refine zs_goto hE 28 (by decide) dL_law_2383 ?_
            refine zs_sub [3, 4, 5, 6, 7, 0] rfl ?_
            exact hs28 (x5 + (5 : Int32))
          · refine zs_iconst hE (v := (0 : Int32)) (by decide) dL_law_1107 ?_
            exact zs_zret hE rfl dL_law_1108
        · refine zs_goto hE 2380 (by decide) dL_law_1109 ?_
          refine zs_iinc hE 7 (v := (5 : Int32)) rfl (by decide) (by decide) (zcat_rf (some x4)) (lv' := [(7, .int r102), (6, .int r100), (0, va_rf x0), (1, va_rf (some x1)), (2, va_rf (some x2)), (3, va_rf (some x3)), (4, va_rf (some x4))]) rfl dL_law_2380 ?_
          refine zs_goto hE 28 (by decide) dL_law_2383 ?_
          refine zs_sub [3, 4, 5, 6, 7, 0] rfl ?_
          exact hs28 (x5 + (5 : Int32))
      · refine zs_iconst hE (v := (0 : Int32)) (by decide) dL_law_1090 ?_
        exact zs_zret hE rfl dL_law_1091
    · refine zs_aload_n hE 1 rfl rfl dL_law_1112 ?_
      refine zs_aload_n hE 0 rfl rfl dL_law_1113 ?_
      refine zs_iload hE 5 rfl dL_law_1114 ?_
      refine zs_iconst hE (v := (1 : Int32)) (by decide) dL_law_1116 ?_
      refine zs_iadd hE dL_law_1117 ?_
      refine zs_aldKI hE dL_law_1118 (fun v105 => ?_)
      refine zs_aload_n hE 0 rfl rfl dL_law_1119 ?_
      refine zs_iload hE 5 rfl dL_law_1120 ?_
      refine zs_iconst hE (v := (2 : Int32)) (by decide) dL_law_1122 ?_
      refine zs_iadd hE dL_law_1123 ?_
      refine zs_aldKI hE dL_law_1124 (fun v106 => ?_)
      refine zs_aload_n hE 3 rfl rfl dL_law_1125 ?_
      refine zs_callSX hE (As := [va_rf (some x1), .int v105, .int v106, va_rf (some x3)]) (encA := encI) (met_X0_steps K (some x1) v105 v106 (some x3)) q2229 q94 q2227 q2228 hd_X0_steps (by decide) (by decide) rfl (by simp [zcat_rf, zcat_i, zcat_j, zcat_f, zcat_d]) (fun z hz => by cases hz) dL_law_1126 (fun r107 => ?_)
      show zS _ 1129 _ [.int r107] _
      refine zs_istore hE (i := 6) (by decide) (rfl) (lv' := [(0, va_rf x0), (1, va_rf (some x1)), (2, va_rf (some x2)), (3, va_rf (some x3)), (4, va_rf (some x4)), (5, .int x5)]) rfl dL_law_1129 ?_
      refine zs_aload_n hE 3 rfl rfl dL_law_1131 ?_
      refine zs_aload_n hE 1 rfl rfl dL_law_1132 ?_
      refine zs_iload hE 6 rfl dL_law_1133 ?_
      refine zs_iconst hE (v := (1 : Int32)) (by decide) dL_law_1135 ?_
      refine zs_iadd hE dL_law_1136 ?_
      refine zs_aldKI hE dL_law_1137 (fun v108 => ?_)
      refine zs_aload_n hE 1 rfl rfl dL_law_1138 ?_
      refine zs_iload hE 6 rfl dL_law_1139 ?_
      refine zs_iconst hE (v := (2 : Int32)) (by decide) dL_law_1141 ?_
      refine zs_iadd hE dL_law_1142 ?_
      refine zs_aldKI hE dL_law_1143 (fun v109 => ?_)
      refine zs_callV hE (As := [.int v108, .int v109]) (encA := encI) (ci := 35) rfl (fun y0 => met_X3_steps K y0 v108 v109) q3127 q105 q3124 q3125 (zq q3126) hd_X3_steps (by decide) (by decide) rfl (by simp [zcat_rf, zcat_i, zcat_j, zcat_f, zcat_d]) (fun z hz => by cases hz) dL_law_1144 (fun r110 => ?_)
      show zS _ 1147 _ [.int r110] _
      refine zs_istore hE (i := 7) (by decide) (rfl) (lv' := [(6, .int r107), (0, va_rf x0), (1, va_rf (some x1)), (2, va_rf (some x2)), (3, va_rf (some x3)), (4, va_rf (some x4)), (5, .int x5)]) rfl dL_law_1147 ?_
      refine zs_aload_n hE 4 rfl rfl dL_law_1149 ?_
      refine zs_callV hE (As := []) (encA := encI) (ci := 35) rfl (fun y0 => met_X3_thrown K y0) q2912 q105 q2909 q2910 (zq q2911) hd_X3_thrown (by decide) (by decide) rfl (by simp [zcat_rf, zcat_i, zcat_j, zcat_f, zcat_d]) (fun z hz => by cases hz) dL_law_1150 (fun r111 => ?_)
      show zS _ 1153 _ [.int r111] _
      refine zs_iload hE 1 rfl dL_law_1153 ?_
      refine zs_icmp_eq hE 1160 (by decide) dL_law_1155 ?_ ?_
      · refine zs_iload hE 1 rfl dL_law_1160 ?_
        refine zs_if_ne hE 1177 (by decide) dL_law_1162 ?_ ?_
        · refine zs_aload_n hE 5 rfl rfl dL_law_1165 ?_
          refine zs_iconst hE (v := (0 : Int32)) (by decide) dL_law_1166 ?_
          refine zs_aldJ hE dL_law_1167 (fun v112 => ?_)
          refine zs_iload hE 0 rfl dL_law_1168 ?_
          refine zs_i2l hE dL_law_1170 ?_
          refine zs_lcmp hE dL_law_1171 ?_
          refine zs_if_eq hE 1177 (by decide) dL_law_1172 ?_ ?_
          · refine zs_goto hE 2380 (by decide) dL_law_1177 ?_
            refine zs_iinc hE 7 (v := (5 : Int32)) rfl (by decide) (by decide) (zcat_rf (some x4)) (lv' := [(7, .int r110), (6, .int r107), (0, va_rf x0), (1, va_rf (some x1)), (2, va_rf (some x2)), (3, va_rf (some x3)), (4, va_rf (some x4))]) rfl dL_law_2380 ?_
            refine zs_goto hE 28 (by decide) dL_law_2383 ?_
            refine zs_sub [3, 4, 5, 6, 7, 0] rfl ?_
            exact hs28 (x5 + (5 : Int32))
          · refine zs_iconst hE (v := (0 : Int32)) (by decide) dL_law_1175 ?_
            exact zs_zret hE rfl dL_law_1176
        · refine zs_goto hE 2380 (by decide) dL_law_1177 ?_
          refine zs_iinc hE 7 (v := (5 : Int32)) rfl (by decide) (by decide) (zcat_rf (some x4)) (lv' := [(7, .int r110), (6, .int r107), (0, va_rf x0), (1, va_rf (some x1)), (2, va_rf (some x2)), (3, va_rf (some x3)), (4, va_rf (some x4))]) rfl dL_law_2380 ?_
          refine zs_goto hE 28 (by decide) dL_law_2383 ?_
          refine zs_sub [3, 4, 5, 6, 7, 0] rfl ?_
          exact hs28 (x5 + (5 : Int32))
      · refine zs_iconst hE (v := (0 : Int32)) (by decide) dL_law_1158 ?_
        exact zs_zret hE rfl dL_law_1159
    · refine zs_aload_n hE 1 rfl rfl dL_law_1180 ?_
      refine zs_aload_n hE 0 rfl rfl dL_law_1181 ?_
      refine zs_iload hE 5 rfl dL_law_1182 ?_
      refine zs_iconst hE (v := (1 : Int32)) (by decide) dL_law_1184 ?_
      refine zs_iadd hE dL_law_1185 ?_
      refine zs_aldKI hE dL_law_1186 (fun v113 => ?_)
      refine zs_aload_n hE 0 rfl rfl dL_law_1187 ?_
      refine zs_iload hE 5 rfl dL_law_1188 ?_
      refine zs_iconst hE (v := (2 : Int32)) (by decide) dL_law_1190 ?_
      refine zs_iadd hE dL_law_1191 ?_
      refine zs_aldKI hE dL_law_1192 (fun v114 => ?_)
      refine zs_aload_n hE 3 rfl rfl dL_law_1193 ?_
      refine zs_callSX hE (As := [va_rf (some x1), .int v113, .int v114, va_rf (some x3)]) (encA := encI) (met_X0_stepsAgain K (some x1) v113 v114 (some x3)) q2275 q94 q2273 q2274 hd_X0_stepsAgain (by decide) (by decide) rfl (by simp [zcat_rf, zcat_i, zcat_j, zcat_f, zcat_d]) (fun z hz => by cases hz) dL_law_1194 (fun r115 => ?_)
      show zS _ 1197 _ [.int r115] _
      refine zs_istore hE (i := 6) (by decide) (rfl) (lv' := [(0, va_rf x0), (1, va_rf (some x1)), (2, va_rf (some x2)), (3, va_rf (some x3)), (4, va_rf (some x4)), (5, .int x5)]) rfl dL_law_1197 ?_
      refine zs_aload_n hE 3 rfl rfl dL_law_1199 ?_
      refine zs_aload_n hE 1 rfl rfl dL_law_1200 ?_
      refine zs_iload hE 6 rfl dL_law_1201 ?_
      refine zs_iconst hE (v := (1 : Int32)) (by decide) dL_law_1203 ?_
      refine zs_iadd hE dL_law_1204 ?_
      refine zs_aldKI hE dL_law_1205 (fun v116 => ?_)
      refine zs_aload_n hE 1 rfl rfl dL_law_1206 ?_
      refine zs_iload hE 6 rfl dL_law_1207 ?_
      refine zs_iconst hE (v := (2 : Int32)) (by decide) dL_law_1209 ?_
      refine zs_iadd hE dL_law_1210 ?_
      refine zs_aldKI hE dL_law_1211 (fun v117 => ?_)
      refine zs_callV hE (As := [.int v116, .int v117]) (encA := encI) (ci := 35) rfl (fun y0 => met_X3_stepsAgain K y0 v116 v117) q3135 q105 q3132 q3133 (zq q3134) hd_X3_stepsAgain (by decide) (by decide) rfl (by simp [zcat_rf, zcat_i, zcat_j, zcat_f, zcat_d]) (fun z hz => by cases hz) dL_law_1212 (fun r118 => ?_)
      show zS _ 1215 _ [.int r118] _
      refine zs_istore hE (i := 7) (by decide) (rfl) (lv' := [(6, .int r115), (0, va_rf x0), (1, va_rf (some x1)), (2, va_rf (some x2)), (3, va_rf (some x3)), (4, va_rf (some x4)), (5, .int x5)]) rfl dL_law_1215 ?_
      refine zs_aload_n hE 4 rfl rfl dL_law_1217 ?_
      refine zs_callV hE (As := []) (encA := encI) (ci := 35) rfl (fun y0 => met_X3_thrown K y0) q2912 q105 q2909 q2910 (zq q2911) hd_X3_thrown (by decide) (by decide) rfl (by simp [zcat_rf, zcat_i, zcat_j, zcat_f, zcat_d]) (fun z hz => by cases hz) dL_law_1218 (fun r119 => ?_)
      show zS _ 1221 _ [.int r119] _
      refine zs_iload hE 1 rfl dL_law_1221 ?_
      refine zs_icmp_eq hE 1228 (by decide) dL_law_1223 ?_ ?_
      · refine zs_iload hE 1 rfl dL_law_1228 ?_
        refine zs_if_ne hE 1245 (by decide) dL_law_1230 ?_ ?_
        · refine zs_aload_n hE 5 rfl rfl dL_law_1233 ?_
          refine zs_iconst hE (v := (0 : Int32)) (by decide) dL_law_1234 ?_
          refine zs_aldJ hE dL_law_1235 (fun v120 => ?_)
          refine zs_iload hE 0 rfl dL_law_1236 ?_
          refine zs_i2l hE dL_law_1238 ?_
          refine zs_lcmp hE dL_law_1239 ?_
          refine zs_if_eq hE 1245 (by decide) dL_law_1240 ?_ ?_
          · refine zs_goto hE 2380 (by decide) dL_law_1245 ?_
            refine zs_iinc hE 7 (v := (5 : Int32)) rfl (by decide) (by decide) (zcat_rf (some x4)) (lv' := [(7, .int r118), (6, .int r115), (0, va_rf x0), (1, va_rf (some x1)), (2, va_rf (some x2)), (3, va_rf (some x3)), (4, va_rf (some x4))]) rfl dL_law_2380 ?_
            refine zs_goto hE 28 (by decide) dL_law_2383 ?_
            refine zs_sub [3, 4, 5, 6, 7, 0] rfl ?_
            exact hs28 (x5 + (5 : Int32))
          · refine zs_iconst hE (v := (0 : Int32)) (by decide) dL_law_1243 ?_
            exact zs_zret hE rfl dL_law_1244
        · refine zs_goto hE 2380 (by decide) dL_law_1245 ?_
          refine zs_iinc hE 7 (v := (5 : Int32)) rfl (by decide) (by decide) (zcat_rf (some x4)) (lv' := [(7, .int r118), (6, .int r115), (0, va_rf x0), (1, va_rf (some x1)), (2, va_rf (some x2)), (3, va_rf (some x3)), (4, va_rf (some x4))]) rfl dL_law_2380 ?_
          refine zs_goto hE 28 (by decide) dL_law_2383 ?_
          refine zs_sub [3, 4, 5, 6, 7, 0] rfl ?_
          exact hs28 (x5 + (5 : Int32))
      · refine zs_iconst hE (v := (0 : Int32)) (by decide) dL_law_1226 ?_
        exact zs_zret hE rfl dL_law_1227
    · refine zs_aload_n hE 1 rfl rfl dL_law_1248 ?_
      refine zs_aload_n hE 0 rfl rfl dL_law_1249 ?_
      refine zs_iload hE 5 rfl dL_law_1250 ?_
      refine zs_iconst hE (v := (1 : Int32)) (by decide) dL_law_1252 ?_
      refine zs_iadd hE dL_law_1253 ?_
      refine zs_aldKI hE dL_law_1254 (fun v121 => ?_)
      refine zs_aload_n hE 3 rfl rfl dL_law_1255 ?_
      refine zs_callSX hE (As := [va_rf (some x1), .int v121, va_rf (some x3)]) (encA := encI) (met_X0_isInRing K (some x1) v121 (some x3)) q2353 q94 q2351 q2352 hd_X0_isInRing (by decide) (by decide) rfl (by simp [zcat_rf, zcat_i, zcat_j, zcat_f, zcat_d]) (fun z hz => by cases hz) dL_law_1256 (fun r122 => ?_)
      show zS _ 1259 _ [.int r122] _
      refine zs_istore hE (i := 6) (by decide) (rfl) (lv' := [(0, va_rf x0), (1, va_rf (some x1)), (2, va_rf (some x2)), (3, va_rf (some x3)), (4, va_rf (some x4)), (5, .int x5)]) rfl dL_law_1259 ?_
      refine zs_aload_n hE 3 rfl rfl dL_law_1261 ?_
      refine zs_aload_n hE 1 rfl rfl dL_law_1262 ?_
      refine zs_iload hE 6 rfl dL_law_1263 ?_
      refine zs_iconst hE (v := (1 : Int32)) (by decide) dL_law_1265 ?_
      refine zs_iadd hE dL_law_1266 ?_
      refine zs_aldKI hE dL_law_1267 (fun v123 => ?_)
      refine zs_callV hE (As := [.int v123]) (encA := encI) (ci := 35) rfl (fun y0 => met_X3_isInRing K y0 v123) q3139 q105 q3136 q3137 (zq q3138) hd_X3_isInRing (by decide) (by decide) rfl (by simp [zcat_rf, zcat_i, zcat_j, zcat_f, zcat_d]) (fun z hz => by cases hz) dL_law_1268 (fun r124 => ?_)
      show zS _ 1271 _ [.int r124] _
      refine zs_istore hE (i := 7) (by decide) (rfl) (lv' := [(6, .int r122), (0, va_rf x0), (1, va_rf (some x1)), (2, va_rf (some x2)), (3, va_rf (some x3)), (4, va_rf (some x4)), (5, .int x5)]) rfl dL_law_1271 ?_
      refine zs_aload_n hE 4 rfl rfl dL_law_1273 ?_
      refine zs_callV hE (As := []) (encA := encI) (ci := 35) rfl (fun y0 => met_X3_thrown K y0) q2912 q105 q2909 q2910 (zq q2911) hd_X3_thrown (by decide) (by decide) rfl (by simp [zcat_rf, zcat_i, zcat_j, zcat_f, zcat_d]) (fun z hz => by cases hz) dL_law_1274 (fun r125 => ?_)
      show zS _ 1277 _ [.int r125] _
      refine zs_iload hE 1 rfl dL_law_1277 ?_
      refine zs_icmp_eq hE 1284 (by decide) dL_law_1279 ?_ ?_
      · refine zs_iload hE 1 rfl dL_law_1284 ?_
        refine zs_if_ne hE 1308 (by decide) dL_law_1286 ?_ ?_
        · refine zs_aload_n hE 5 rfl rfl dL_law_1289 ?_
          refine zs_iconst hE (v := (0 : Int32)) (by decide) dL_law_1290 ?_
          refine zs_aldJ hE dL_law_1291 (fun v126 => ?_)
          refine zs_iload hE 0 rfl dL_law_1292 ?_
          refine zs_if_eq hE 1301 (by decide) dL_law_1294 ?_ ?_
          · refine zs_lconst hE (v := (0 : Int64)) (by decide) dL_law_1301 ?_
            refine zs_sub [2, 3, 4, 5, 6, 7] rfl ?_
            exact sm_X0_law_J1302 hE x0 x1 x2 x3 x4 x5 (0 : Int64) v126 self28 hs28
          · refine zs_lconst hE (v := (1 : Int64)) (by decide) dL_law_1297 ?_
            refine zs_goto hE 1302 (by decide) dL_law_1298 ?_
            refine zs_sub [2, 3, 4, 5, 6, 7] rfl ?_
            exact sm_X0_law_J1302 hE x0 x1 x2 x3 x4 x5 (1 : Int64) v126 self28 hs28
        · refine zs_goto hE 2380 (by decide) dL_law_1308 ?_
          refine zs_iinc hE 7 (v := (5 : Int32)) rfl (by decide) (by decide) (zcat_rf (some x4)) (lv' := [(7, .int r124), (6, .int r122), (0, va_rf x0), (1, va_rf (some x1)), (2, va_rf (some x2)), (3, va_rf (some x3)), (4, va_rf (some x4))]) rfl dL_law_2380 ?_
          refine zs_goto hE 28 (by decide) dL_law_2383 ?_
          refine zs_sub [3, 4, 5, 6, 7, 0] rfl ?_
          exact hs28 (x5 + (5 : Int32))
      · refine zs_iconst hE (v := (0 : Int32)) (by decide) dL_law_1282 ?_
        exact zs_zret hE rfl dL_law_1283
    · refine zs_aload_n hE 1 rfl rfl dL_law_1311 ?_
      refine zs_aload_n hE 0 rfl rfl dL_law_1312 ?_
      refine zs_iload hE 5 rfl dL_law_1313 ?_
      refine zs_iconst hE (v := (1 : Int32)) (by decide) dL_law_1315 ?_
      refine zs_iadd hE dL_law_1316 ?_
      refine zs_aldKI hE dL_law_1317 (fun v127 => ?_)
      refine zs_aload_n hE 3 rfl rfl dL_law_1318 ?_
      refine zs_callSX hE (As := [va_rf (some x1), .int v127, va_rf (some x3)]) (encA := encI) (met_X0_canTake K (some x1) v127 (some x3)) q2363 q94 q2361 q2362 hd_X0_canTake (by decide) (by decide) rfl (by simp [zcat_rf, zcat_i, zcat_j, zcat_f, zcat_d]) (fun z hz => by cases hz) dL_law_1319 (fun r128 => ?_)
      show zS _ 1322 _ [.int r128] _
      refine zs_istore hE (i := 6) (by decide) (rfl) (lv' := [(0, va_rf x0), (1, va_rf (some x1)), (2, va_rf (some x2)), (3, va_rf (some x3)), (4, va_rf (some x4)), (5, .int x5)]) rfl dL_law_1322 ?_
      refine zs_aload_n hE 3 rfl rfl dL_law_1324 ?_
      refine zs_aload_n hE 1 rfl rfl dL_law_1325 ?_
      refine zs_iload hE 6 rfl dL_law_1326 ?_
      refine zs_iconst hE (v := (1 : Int32)) (by decide) dL_law_1328 ?_
      refine zs_iadd hE dL_law_1329 ?_
      refine zs_aldKI hE dL_law_1330 (fun v129 => ?_)
      refine zs_callV hE (As := [.int v129]) (encA := encI) (ci := 35) rfl (fun y0 => met_X3_canTake K y0 v129) q3143 q105 q3140 q3141 (zq q3142) hd_X3_canTake (by decide) (by decide) rfl (by simp [zcat_rf, zcat_i, zcat_j, zcat_f, zcat_d]) (fun z hz => by cases hz) dL_law_1331 (fun r130 => ?_)
      show zS _ 1334 _ [.int r130] _
      refine zs_istore hE (i := 7) (by decide) (rfl) (lv' := [(6, .int r128), (0, va_rf x0), (1, va_rf (some x1)), (2, va_rf (some x2)), (3, va_rf (some x3)), (4, va_rf (some x4)), (5, .int x5)]) rfl dL_law_1334 ?_
      refine zs_aload_n hE 4 rfl rfl dL_law_1336 ?_
      refine zs_callV hE (As := []) (encA := encI) (ci := 35) rfl (fun y0 => met_X3_thrown K y0) q2912 q105 q2909 q2910 (zq q2911) hd_X3_thrown (by decide) (by decide) rfl (by simp [zcat_rf, zcat_i, zcat_j, zcat_f, zcat_d]) (fun z hz => by cases hz) dL_law_1337 (fun r131 => ?_)
      show zS _ 1340 _ [.int r131] _
      refine zs_iload hE 1 rfl dL_law_1340 ?_
      refine zs_icmp_eq hE 1347 (by decide) dL_law_1342 ?_ ?_
      · refine zs_iload hE 1 rfl dL_law_1347 ?_
        refine zs_if_ne hE 1371 (by decide) dL_law_1349 ?_ ?_
        · refine zs_aload_n hE 5 rfl rfl dL_law_1352 ?_
          refine zs_iconst hE (v := (0 : Int32)) (by decide) dL_law_1353 ?_
          refine zs_aldJ hE dL_law_1354 (fun v132 => ?_)
          refine zs_iload hE 0 rfl dL_law_1355 ?_
          refine zs_if_eq hE 1364 (by decide) dL_law_1357 ?_ ?_
          · refine zs_lconst hE (v := (0 : Int64)) (by decide) dL_law_1364 ?_
            refine zs_sub [2, 3, 4, 5, 6, 7] rfl ?_
            exact sm_X0_law_J1365 hE x0 x1 x2 x3 x4 x5 (0 : Int64) v132 self28 hs28
          · refine zs_lconst hE (v := (1 : Int64)) (by decide) dL_law_1360 ?_
            refine zs_goto hE 1365 (by decide) dL_law_1361 ?_
            refine zs_sub [2, 3, 4, 5, 6, 7] rfl ?_
            exact sm_X0_law_J1365 hE x0 x1 x2 x3 x4 x5 (1 : Int64) v132 self28 hs28
        · refine zs_goto hE 2380 (by decide) dL_law_1371 ?_
          refine zs_iinc hE 7 (v := (5 : Int32)) rfl (by decide) (by decide) (zcat_rf (some x4)) (lv' := [(7, .int r130), (6, .int r128), (0, va_rf x0), (1, va_rf (some x1)), (2, va_rf (some x2)), (3, va_rf (some x3)), (4, va_rf (some x4))]) rfl dL_law_2380 ?_
          refine zs_goto hE 28 (by decide) dL_law_2383 ?_
          refine zs_sub [3, 4, 5, 6, 7, 0] rfl ?_
          exact hs28 (x5 + (5 : Int32))
      · refine zs_iconst hE (v := (0 : Int32)) (by decide) dL_law_1345 ?_
        exact zs_zret hE rfl dL_law_1346
    · refine zs_aload_n hE 1 rfl rfl dL_law_1374 ?_
      refine zs_aload_n hE 3 rfl rfl dL_law_1375 ?_
      refine zs_callSX hE (As := [va_rf (some x1), va_rf (some x3)]) (encA := encI) (met_X0_whoTakes K (some x1) (some x3)) q2375 q94 q2373 q2374 hd_X0_whoTakes (by decide) (by decide) rfl (by simp [zcat_rf, zcat_i, zcat_j, zcat_f, zcat_d]) (fun z hz => by cases hz) dL_law_1376 (fun r133 => ?_)
      show zS _ 1379 _ [.int r133] _
      refine zs_istore hE (i := 6) (by decide) (rfl) (lv' := [(0, va_rf x0), (1, va_rf (some x1)), (2, va_rf (some x2)), (3, va_rf (some x3)), (4, va_rf (some x4)), (5, .int x5)]) rfl dL_law_1379 ?_
      refine zs_aload_n hE 3 rfl rfl dL_law_1381 ?_
      refine zs_callV hE (As := []) (encA := encI) (ci := 35) rfl (fun y0 => met_X3_whoTakes K y0) q3147 q105 q3144 q3145 (zq q3146) hd_X3_whoTakes (by decide) (by decide) rfl (by simp [zcat_rf, zcat_i, zcat_j, zcat_f, zcat_d]) (fun z hz => by cases hz) dL_law_1382 (fun r134 => ?_)
      show zS _ 1385 _ [.int r134] _
      refine zs_istore hE (i := 7) (by decide) (rfl) (lv' := [(6, .int r133), (0, va_rf x0), (1, va_rf (some x1)), (2, va_rf (some x2)), (3, va_rf (some x3)), (4, va_rf (some x4)), (5, .int x5)]) rfl dL_law_1385 ?_
      refine zs_aload_n hE 4 rfl rfl dL_law_1387 ?_
      refine zs_callV hE (As := []) (encA := encI) (ci := 35) rfl (fun y0 => met_X3_thrown K y0) q2912 q105 q2909 q2910 (zq q2911) hd_X3_thrown (by decide) (by decide) rfl (by simp [zcat_rf, zcat_i, zcat_j, zcat_f, zcat_d]) (fun z hz => by cases hz) dL_law_1388 (fun r135 => ?_)
      show zS _ 1391 _ [.int r135] _
      refine zs_iload hE 1 rfl dL_law_1391 ?_
      refine zs_icmp_eq hE 1398 (by decide) dL_law_1393 ?_ ?_
      · refine zs_iload hE 1 rfl dL_law_1398 ?_
        refine zs_if_ne hE 1415 (by decide) dL_law_1400 ?_ ?_
        · refine zs_aload_n hE 5 rfl rfl dL_law_1403 ?_
          refine zs_iconst hE (v := (0 : Int32)) (by decide) dL_law_1404 ?_
          refine zs_aldJ hE dL_law_1405 (fun v136 => ?_)
          refine zs_iload hE 0 rfl dL_law_1406 ?_
          refine zs_i2l hE dL_law_1408 ?_
          refine zs_lcmp hE dL_law_1409 ?_
          refine zs_if_eq hE 1415 (by decide) dL_law_1410 ?_ ?_
          · refine zs_goto hE 2380 (by decide) dL_law_1415 ?_
            refine zs_iinc hE 7 (v := (5 : Int32)) rfl (by decide) (by decide) (zcat_rf (some x4)) (lv' := [(7, .int r134), (6, .int r133), (0, va_rf x0), (1, va_rf (some x1)), (2, va_rf (some x2)), (3, va_rf (some x3)), (4, va_rf (some x4))]) rfl dL_law_2380 ?_
            refine zs_goto hE 28 (by decide) dL_law_2383 ?_
            refine zs_sub [3, 4, 5, 6, 7, 0] rfl ?_
            exact hs28 (x5 + (5 : Int32))
          · refine zs_iconst hE (v := (0 : Int32)) (by decide) dL_law_1413 ?_
            exact zs_zret hE rfl dL_law_1414
        · refine zs_goto hE 2380 (by decide) dL_law_1415 ?_
          refine zs_iinc hE 7 (v := (5 : Int32)) rfl (by decide) (by decide) (zcat_rf (some x4)) (lv' := [(7, .int r134), (6, .int r133), (0, va_rf x0), (1, va_rf (some x1)), (2, va_rf (some x2)), (3, va_rf (some x3)), (4, va_rf (some x4))]) rfl dL_law_2380 ?_
          refine zs_goto hE 28 (by decide) dL_law_2383 ?_
          refine zs_sub [3, 4, 5, 6, 7, 0] rfl ?_
          exact hs28 (x5 + (5 : Int32))
      · refine zs_iconst hE (v := (0 : Int32)) (by decide) dL_law_1396 ?_
        exact zs_zret hE rfl dL_law_1397
    · refine zs_aload_n hE 1 rfl rfl dL_law_1418 ?_
      refine zs_aload_n hE 0 rfl rfl dL_law_1419 ?_
      refine zs_iload hE 5 rfl dL_law_1420 ?_
      refine zs_iconst hE (v := (1 : Int32)) (by decide) dL_law_1422 ?_
      refine zs_iadd hE dL_law_1423 ?_
      refine zs_aldKI hE dL_law_1424 (fun v137 => ?_)
      refine zs_aload_n hE 3 rfl rfl dL_law_1425 ?_
      refine zs_callSX hE (As := [va_rf (some x1), .int v137, va_rf (some x3)]) (encA := encI) (met_X0_receivedIn K (some x1) v137 (some x3)) q2382 q94 q2380 q2381 hd_X0_receivedIn (by decide) (by decide) rfl (by simp [zcat_rf, zcat_i, zcat_j, zcat_f, zcat_d]) (fun z hz => by cases hz) dL_law_1426 (fun r138 => ?_)
      show zS _ 1429 _ [.int r138] _
      refine zs_istore hE (i := 6) (by decide) (rfl) (lv' := [(0, va_rf x0), (1, va_rf (some x1)), (2, va_rf (some x2)), (3, va_rf (some x3)), (4, va_rf (some x4)), (5, .int x5)]) rfl dL_law_1429 ?_
      refine zs_aload_n hE 3 rfl rfl dL_law_1431 ?_
      refine zs_aload_n hE 1 rfl rfl dL_law_1432 ?_
      refine zs_iload hE 6 rfl dL_law_1433 ?_
      refine zs_iconst hE (v := (1 : Int32)) (by decide) dL_law_1435 ?_
      refine zs_iadd hE dL_law_1436 ?_
      refine zs_aldKI hE dL_law_1437 (fun v139 => ?_)
      refine zs_callV hE (As := [.int v139]) (encA := encI) (ci := 35) rfl (fun y0 => met_X3_receivedIn K y0 v139) q3151 q105 q3148 q3149 (zq q3150) hd_X3_receivedIn (by decide) (by decide) rfl (by simp [zcat_rf, zcat_i, zcat_j, zcat_f, zcat_d]) (fun z hz => by cases hz) dL_law_1438 (fun r140 => ?_)
      show zS _ 1441 _ [.int r140] _
      refine zs_istore hE (i := 7) (by decide) (rfl) (lv' := [(6, .int r138), (0, va_rf x0), (1, va_rf (some x1)), (2, va_rf (some x2)), (3, va_rf (some x3)), (4, va_rf (some x4)), (5, .int x5)]) rfl dL_law_1441 ?_
      refine zs_aload_n hE 4 rfl rfl dL_law_1443 ?_
      refine zs_callV hE (As := []) (encA := encI) (ci := 35) rfl (fun y0 => met_X3_thrown K y0) q2912 q105 q2909 q2910 (zq q2911) hd_X3_thrown (by decide) (by decide) rfl (by simp [zcat_rf, zcat_i, zcat_j, zcat_f, zcat_d]) (fun z hz => by cases hz) dL_law_1444 (fun r141 => ?_)
      show zS _ 1447 _ [.int r141] _
      refine zs_iload hE 1 rfl dL_law_1447 ?_
      refine zs_icmp_eq hE 1454 (by decide) dL_law_1449 ?_ ?_
      · refine zs_iload hE 1 rfl dL_law_1454 ?_
        refine zs_if_ne hE 1471 (by decide) dL_law_1456 ?_ ?_
        · refine zs_aload_n hE 5 rfl rfl dL_law_1459 ?_
          refine zs_iconst hE (v := (0 : Int32)) (by decide) dL_law_1460 ?_
          refine zs_aldJ hE dL_law_1461 (fun v142 => ?_)
          refine zs_iload hE 0 rfl dL_law_1462 ?_
          refine zs_i2l hE dL_law_1464 ?_
          refine zs_lcmp hE dL_law_1465 ?_
          refine zs_if_eq hE 1471 (by decide) dL_law_1466 ?_ ?_
          · refine zs_goto hE 2380 (by decide) dL_law_1471 ?_
            refine zs_iinc hE 7 (v := (5 : Int32)) rfl (by decide) (by decide) (zcat_rf (some x4)) (lv' := [(7, .int r140), (6, .int r138), (0, va_rf x0), (1, va_rf (some x1)), (2, va_rf (some x2)), (3, va_rf (some x3)), (4, va_rf (some x4))]) rfl dL_law_2380 ?_
            refine zs_goto hE 28 (by decide) dL_law_2383 ?_
            refine zs_sub [3, 4, 5, 6, 7, 0] rfl ?_
            exact hs28 (x5 + (5 : Int32))
          · refine zs_iconst hE (v := (0 : Int32)) (by decide) dL_law_1469 ?_
            exact zs_zret hE rfl dL_law_1470
        · refine zs_goto hE 2380 (by decide) dL_law_1471 ?_
          refine zs_iinc hE 7 (v := (5 : Int32)) rfl (by decide) (by decide) (zcat_rf (some x4)) (lv' := [(7, .int r140), (6, .int r138), (0, va_rf x0), (1, va_rf (some x1)), (2, va_rf (some x2)), (3, va_rf (some x3)), (4, va_rf (some x4))]) rfl dL_law_2380 ?_
          refine zs_goto hE 28 (by decide) dL_law_2383 ?_
          refine zs_sub [3, 4, 5, 6, 7, 0] rfl ?_
          exact hs28 (x5 + (5 : Int32))
      · refine zs_iconst hE (v := (0 : Int32)) (by decide) dL_law_1452 ?_
        exact zs_zret hE rfl dL_law_1453
    · refine zs_aload_n hE 1 rfl rfl dL_law_1474 ?_
      refine zs_aload_n hE 0 rfl rfl dL_law_1475 ?_
      refine zs_iload hE 5 rfl dL_law_1476 ?_
      refine zs_iconst hE (v := (1 : Int32)) (by decide) dL_law_1478 ?_
      refine zs_iadd hE dL_law_1479 ?_
      refine zs_aldKI hE dL_law_1480 (fun v143 => ?_)
      refine zs_aload_n hE 3 rfl rfl dL_law_1481 ?_
      refine zs_callSX hE (As := [va_rf (some x1), .int v143, va_rf (some x3)]) (encA := encI) (met_X0_tokenIn K (some x1) v143 (some x3)) q2389 q94 q2387 q2388 hd_X0_tokenIn (by decide) (by decide) rfl (by simp [zcat_rf, zcat_i, zcat_j, zcat_f, zcat_d]) (fun z hz => by cases hz) dL_law_1482 (fun r144 => ?_)
      show zS _ 1485 _ [.int r144] _
      refine zs_istore hE (i := 6) (by decide) (rfl) (lv' := [(0, va_rf x0), (1, va_rf (some x1)), (2, va_rf (some x2)), (3, va_rf (some x3)), (4, va_rf (some x4)), (5, .int x5)]) rfl dL_law_1485 ?_
      refine zs_aload_n hE 3 rfl rfl dL_law_1487 ?_
      refine zs_aload_n hE 1 rfl rfl dL_law_1488 ?_
      refine zs_iload hE 6 rfl dL_law_1489 ?_
      refine zs_iconst hE (v := (1 : Int32)) (by decide) dL_law_1491 ?_
      refine zs_iadd hE dL_law_1492 ?_
      refine zs_aldKI hE dL_law_1493 (fun v145 => ?_)
      refine zs_callV hE (As := [.int v145]) (encA := encI) (ci := 35) rfl (fun y0 => met_X3_tokenIn K y0 v145) q3159 q105 q3156 q3157 (zq q3158) hd_X3_tokenIn (by decide) (by decide) rfl (by simp [zcat_rf, zcat_i, zcat_j, zcat_f, zcat_d]) (fun z hz => by cases hz) dL_law_1494 (fun r146 => ?_)
      show zS _ 1497 _ [.int r146] _
      refine zs_istore hE (i := 7) (by decide) (rfl) (lv' := [(6, .int r144), (0, va_rf x0), (1, va_rf (some x1)), (2, va_rf (some x2)), (3, va_rf (some x3)), (4, va_rf (some x4)), (5, .int x5)]) rfl dL_law_1497 ?_
      refine zs_aload_n hE 4 rfl rfl dL_law_1499 ?_
      refine zs_callV hE (As := []) (encA := encI) (ci := 35) rfl (fun y0 => met_X3_thrown K y0) q2912 q105 q2909 q2910 (zq q2911) hd_X3_thrown (by decide) (by decide) rfl (by simp [zcat_rf, zcat_i, zcat_j, zcat_f, zcat_d]) (fun z hz => by cases hz) dL_law_1500 (fun r147 => ?_)
      show zS _ 1503 _ [.int r147] _
      refine zs_iload hE 1 rfl dL_law_1503 ?_
      refine zs_icmp_eq hE 1510 (by decide) dL_law_1505 ?_ ?_
      · refine zs_iload hE 1 rfl dL_law_1510 ?_
        refine zs_if_ne hE 1527 (by decide) dL_law_1512 ?_ ?_
        · refine zs_aload_n hE 5 rfl rfl dL_law_1515 ?_
          refine zs_iconst hE (v := (0 : Int32)) (by decide) dL_law_1516 ?_
          refine zs_aldJ hE dL_law_1517 (fun v148 => ?_)
          refine zs_iload hE 0 rfl dL_law_1518 ?_
          refine zs_i2l hE dL_law_1520 ?_
          refine zs_lcmp hE dL_law_1521 ?_
          refine zs_if_eq hE 1527 (by decide) dL_law_1522 ?_ ?_
          · refine zs_goto hE 2380 (by decide) dL_law_1527 ?_
            refine zs_iinc hE 7 (v := (5 : Int32)) rfl (by decide) (by decide) (zcat_rf (some x4)) (lv' := [(7, .int r146), (6, .int r144), (0, va_rf x0), (1, va_rf (some x1)), (2, va_rf (some x2)), (3, va_rf (some x3)), (4, va_rf (some x4))]) rfl dL_law_2380 ?_
            refine zs_goto hE 28 (by decide) dL_law_2383 ?_
            refine zs_sub [3, 4, 5, 6, 7, 0] rfl ?_
            exact hs28 (x5 + (5 : Int32))
          · refine zs_iconst hE (v := (0 : Int32)) (by decide) dL_law_1525 ?_
            exact zs_zret hE rfl dL_law_1526
        · refine zs_goto hE 2380 (by decide) dL_law_1527 ?_
          refine zs_iinc hE 7 (v := (5 : Int32)) rfl (by decide) (by decide) (zcat_rf (some x4)) (lv' := [(7, .int r146), (6, .int r144), (0, va_rf x0), (1, va_rf (some x1)), (2, va_rf (some x2)), (3, va_rf (some x3)), (4, va_rf (some x4))]) rfl dL_law_2380 ?_
          refine zs_goto hE 28 (by decide) dL_law_2383 ?_
          refine zs_sub [3, 4, 5, 6, 7, 0] rfl ?_
          exact hs28 (x5 + (5 : Int32))
      · refine zs_iconst hE (v := (0 : Int32)) (by decide) dL_law_1508 ?_
        exact zs_zret hE rfl dL_law_1509
    · refine zs_aload_n hE 1 rfl rfl dL_law_1530 ?_
      refine zs_aload_n hE 0 rfl rfl dL_law_1531 ?_
      refine zs_iload hE 5 rfl dL_law_1532 ?_
      refine zs_iconst hE (v := (1 : Int32)) (by decide) dL_law_1534 ?_
      refine zs_iadd hE dL_law_1535 ?_
      refine zs_aldKI hE dL_law_1536 (fun v149 => ?_)
      refine zs_aload_n hE 0 rfl rfl dL_law_1537 ?_
      refine zs_iload hE 5 rfl dL_law_1538 ?_
      refine zs_iconst hE (v := (2 : Int32)) (by decide) dL_law_1540 ?_
      refine zs_iadd hE dL_law_1541 ?_
      refine zs_aldKI hE dL_law_1542 (fun v150 => ?_)
      refine zs_aload_n hE 3 rfl rfl dL_law_1543 ?_
      refine zs_callSX hE (As := [va_rf (some x1), .int v149, .int v150, va_rf (some x3)]) (encA := encI) (met_X0_ahead K (some x1) v149 v150 (some x3)) q2396 q94 q2394 q2395 hd_X0_ahead (by decide) (by decide) rfl (by simp [zcat_rf, zcat_i, zcat_j, zcat_f, zcat_d]) (fun z hz => by cases hz) dL_law_1544 (fun r151 => ?_)
      show zS _ 1547 _ [.int r151] _
      refine zs_istore hE (i := 6) (by decide) (rfl) (lv' := [(0, va_rf x0), (1, va_rf (some x1)), (2, va_rf (some x2)), (3, va_rf (some x3)), (4, va_rf (some x4)), (5, .int x5)]) rfl dL_law_1547 ?_
      refine zs_aload_n hE 3 rfl rfl dL_law_1549 ?_
      refine zs_aload_n hE 1 rfl rfl dL_law_1550 ?_
      refine zs_iload hE 6 rfl dL_law_1551 ?_
      refine zs_iconst hE (v := (1 : Int32)) (by decide) dL_law_1553 ?_
      refine zs_iadd hE dL_law_1554 ?_
      refine zs_aldKI hE dL_law_1555 (fun v152 => ?_)
      refine zs_aload_n hE 1 rfl rfl dL_law_1556 ?_
      refine zs_iload hE 6 rfl dL_law_1557 ?_
      refine zs_iconst hE (v := (2 : Int32)) (by decide) dL_law_1559 ?_
      refine zs_iadd hE dL_law_1560 ?_
      refine zs_aldKI hE dL_law_1561 (fun v153 => ?_)
      refine zs_callV hE (As := [.int v152, .int v153]) (encA := encI) (ci := 35) rfl (fun y0 => met_X3_ahead K y0 v152 v153) q3167 q105 q3164 q3165 (zq q3166) hd_X3_ahead (by decide) (by decide) rfl (by simp [zcat_rf, zcat_i, zcat_j, zcat_f, zcat_d]) (fun z hz => by cases hz) dL_law_1562 (fun r154 => ?_)
      show zS _ 1565 _ [.int r154] _
      refine zs_istore hE (i := 7) (by decide) (rfl) (lv' := [(6, .int r151), (0, va_rf x0), (1, va_rf (some x1)), (2, va_rf (some x2)), (3, va_rf (some x3)), (4, va_rf (some x4)), (5, .int x5)]) rfl dL_law_1565 ?_
      refine zs_aload_n hE 4 rfl rfl dL_law_1567 ?_
      refine zs_callV hE (As := []) (encA := encI) (ci := 35) rfl (fun y0 => met_X3_thrown K y0) q2912 q105 q2909 q2910 (zq q2911) hd_X3_thrown (by decide) (by decide) rfl (by simp [zcat_rf, zcat_i, zcat_j, zcat_f, zcat_d]) (fun z hz => by cases hz) dL_law_1568 (fun r155 => ?_)
      show zS _ 1571 _ [.int r155] _
      refine zs_iload hE 1 rfl dL_law_1571 ?_
      refine zs_icmp_eq hE 1578 (by decide) dL_law_1573 ?_ ?_
      · refine zs_iload hE 1 rfl dL_law_1578 ?_
        refine zs_if_ne hE 1595 (by decide) dL_law_1580 ?_ ?_
        · refine zs_aload_n hE 5 rfl rfl dL_law_1583 ?_
          refine zs_iconst hE (v := (0 : Int32)) (by decide) dL_law_1584 ?_
          refine zs_aldJ hE dL_law_1585 (fun v156 => ?_)
          refine zs_iload hE 0 rfl dL_law_1586 ?_
          refine zs_i2l hE dL_law_1588 ?_
          refine zs_lcmp hE dL_law_1589 ?_
          refine zs_if_eq hE 1595 (by decide) dL_law_1590 ?_ ?_
          · refine zs_goto hE 2380 (by decide) dL_law_1595 ?_
            refine zs_iinc hE 7 (v := (5 : Int32)) rfl (by decide) (by decide) (zcat_rf (some x4)) (lv' := [(7, .int r154), (6, .int r151), (0, va_rf x0), (1, va_rf (some x1)), (2, va_rf (some x2)), (3, va_rf (some x3)), (4, va_rf (some x4))]) rfl dL_law_2380 ?_
            refine zs_goto hE 28 (by decide) dL_law_2383 ?_
            refine zs_sub [3, 4, 5, 6, 7, 0] rfl ?_
            exact hs28 (x5 + (5 : Int32))
          · refine zs_iconst hE (v := (0 : Int32)) (by decide) dL_law_1593 ?_
            exact zs_zret hE rfl dL_law_1594
        · refine zs_goto hE 2380 (by decide) dL_law_1595 ?_
          refine zs_iinc hE 7 (v := (5 : Int32)) rfl (by decide) (by decide) (zcat_rf (some x4)) (lv' := [(7, .int r154), (6, .int r151), (0, va_rf x0), (1, va_rf (some x1)), (2, va_rf (some x2)), (3, va_rf (some x3)), (4, va_rf (some x4))]) rfl dL_law_2380 ?_
          refine zs_goto hE 28 (by decide) dL_law_2383 ?_
          refine zs_sub [3, 4, 5, 6, 7, 0] rfl ?_
          exact hs28 (x5 + (5 : Int32))
      · refine zs_iconst hE (v := (0 : Int32)) (by decide) dL_law_1576 ?_
        exact zs_zret hE rfl dL_law_1577
    · refine zs_aload_n hE 1 rfl rfl dL_law_1598 ?_
      refine zs_aload_n hE 0 rfl rfl dL_law_1599 ?_
      refine zs_iload hE 5 rfl dL_law_1600 ?_
      refine zs_iconst hE (v := (1 : Int32)) (by decide) dL_law_1602 ?_
      refine zs_iadd hE dL_law_1603 ?_
      refine zs_aldKI hE dL_law_1604 (fun v157 => ?_)
      refine zs_aload_n hE 3 rfl rfl dL_law_1605 ?_
      refine zs_callSX hE (As := [va_rf (some x1), .int v157, va_rf (some x3)]) (encA := encI) (met_X0_ranked K (some x1) v157 (some x3)) q2403 q94 q2401 q2402 hd_X0_ranked (by decide) (by decide) rfl (by simp [zcat_rf, zcat_i, zcat_j, zcat_f, zcat_d]) (fun z hz => by cases hz) dL_law_1606 (fun r158 => ?_)
      show zS _ 1609 _ [.int r158] _
      refine zs_istore hE (i := 6) (by decide) (rfl) (lv' := [(0, va_rf x0), (1, va_rf (some x1)), (2, va_rf (some x2)), (3, va_rf (some x3)), (4, va_rf (some x4)), (5, .int x5)]) rfl dL_law_1609 ?_
      refine zs_aload_n hE 3 rfl rfl dL_law_1611 ?_
      refine zs_aload_n hE 1 rfl rfl dL_law_1612 ?_
      refine zs_iload hE 6 rfl dL_law_1613 ?_
      refine zs_iconst hE (v := (1 : Int32)) (by decide) dL_law_1615 ?_
      refine zs_iadd hE dL_law_1616 ?_
      refine zs_aldKI hE dL_law_1617 (fun v159 => ?_)
      refine zs_callV hE (As := [.int v159]) (encA := encI) (ci := 35) rfl (fun y0 => met_X3_ranked K y0 v159) q3171 q105 q3168 q3169 (zq q3170) hd_X3_ranked (by decide) (by decide) rfl (by simp [zcat_rf, zcat_i, zcat_j, zcat_f, zcat_d]) (fun z hz => by cases hz) dL_law_1618 (fun r160 => ?_)
      show zS _ 1621 _ [.int r160] _
      refine zs_istore hE (i := 7) (by decide) (rfl) (lv' := [(6, .int r158), (0, va_rf x0), (1, va_rf (some x1)), (2, va_rf (some x2)), (3, va_rf (some x3)), (4, va_rf (some x4)), (5, .int x5)]) rfl dL_law_1621 ?_
      refine zs_aload_n hE 4 rfl rfl dL_law_1623 ?_
      refine zs_callV hE (As := []) (encA := encI) (ci := 35) rfl (fun y0 => met_X3_thrown K y0) q2912 q105 q2909 q2910 (zq q2911) hd_X3_thrown (by decide) (by decide) rfl (by simp [zcat_rf, zcat_i, zcat_j, zcat_f, zcat_d]) (fun z hz => by cases hz) dL_law_1624 (fun r161 => ?_)
      show zS _ 1627 _ [.int r161] _
      refine zs_iload hE 1 rfl dL_law_1627 ?_
      refine zs_icmp_eq hE 1634 (by decide) dL_law_1629 ?_ ?_
      · refine zs_iload hE 1 rfl dL_law_1634 ?_
        refine zs_if_ne hE 1651 (by decide) dL_law_1636 ?_ ?_
        · refine zs_aload_n hE 5 rfl rfl dL_law_1639 ?_
          refine zs_iconst hE (v := (0 : Int32)) (by decide) dL_law_1640 ?_
          refine zs_aldJ hE dL_law_1641 (fun v162 => ?_)
          refine zs_iload hE 0 rfl dL_law_1642 ?_
          refine zs_i2l hE dL_law_1644 ?_
          refine zs_lcmp hE dL_law_1645 ?_
          refine zs_if_eq hE 1651 (by decide) dL_law_1646 ?_ ?_
          · refine zs_goto hE 2380 (by decide) dL_law_1651 ?_
            refine zs_iinc hE 7 (v := (5 : Int32)) rfl (by decide) (by decide) (zcat_rf (some x4)) (lv' := [(7, .int r160), (6, .int r158), (0, va_rf x0), (1, va_rf (some x1)), (2, va_rf (some x2)), (3, va_rf (some x3)), (4, va_rf (some x4))]) rfl dL_law_2380 ?_
            refine zs_goto hE 28 (by decide) dL_law_2383 ?_
            refine zs_sub [3, 4, 5, 6, 7, 0] rfl ?_
            exact hs28 (x5 + (5 : Int32))
          · refine zs_iconst hE (v := (0 : Int32)) (by decide) dL_law_1649 ?_
            exact zs_zret hE rfl dL_law_1650
        · refine zs_goto hE 2380 (by decide) dL_law_1651 ?_
          refine zs_iinc hE 7 (v := (5 : Int32)) rfl (by decide) (by decide) (zcat_rf (some x4)) (lv' := [(7, .int r160), (6, .int r158), (0, va_rf x0), (1, va_rf (some x1)), (2, va_rf (some x2)), (3, va_rf (some x3)), (4, va_rf (some x4))]) rfl dL_law_2380 ?_
          refine zs_goto hE 28 (by decide) dL_law_2383 ?_
          refine zs_sub [3, 4, 5, 6, 7, 0] rfl ?_
          exact hs28 (x5 + (5 : Int32))
      · refine zs_iconst hE (v := (0 : Int32)) (by decide) dL_law_1632 ?_
        exact zs_zret hE rfl dL_law_1633
    · refine zs_aload_n hE 1 rfl rfl dL_law_1654 ?_
      refine zs_aload_n hE 3 rfl rfl dL_law_1655 ?_
      refine zs_callSX hE (As := [va_rf (some x1), va_rf (some x3)]) (encA := encI) (met_X0_longestWait K (some x1) (some x3)) q2426 q94 q2424 q2425 hd_X0_longestWait (by decide) (by decide) rfl (by simp [zcat_rf, zcat_i, zcat_j, zcat_f, zcat_d]) (fun z hz => by cases hz) dL_law_1656 (fun r163 => ?_)
      show zS _ 1659 _ [.int r163] _
      refine zs_istore hE (i := 6) (by decide) (rfl) (lv' := [(0, va_rf x0), (1, va_rf (some x1)), (2, va_rf (some x2)), (3, va_rf (some x3)), (4, va_rf (some x4)), (5, .int x5)]) rfl dL_law_1659 ?_
      refine zs_aload_n hE 3 rfl rfl dL_law_1661 ?_
      refine zs_callV hE (As := []) (encA := encI) (ci := 35) rfl (fun y0 => met_X3_longestWait K y0) q3179 q105 q3176 q3177 (zq q3178) hd_X3_longestWait (by decide) (by decide) rfl (by simp [zcat_rf, zcat_i, zcat_j, zcat_f, zcat_d]) (fun z hz => by cases hz) dL_law_1662 (fun r164 => ?_)
      show zS _ 1665 _ [.int r164] _
      refine zs_istore hE (i := 7) (by decide) (rfl) (lv' := [(6, .int r163), (0, va_rf x0), (1, va_rf (some x1)), (2, va_rf (some x2)), (3, va_rf (some x3)), (4, va_rf (some x4)), (5, .int x5)]) rfl dL_law_1665 ?_
      refine zs_aload_n hE 4 rfl rfl dL_law_1667 ?_
      refine zs_callV hE (As := []) (encA := encI) (ci := 35) rfl (fun y0 => met_X3_thrown K y0) q2912 q105 q2909 q2910 (zq q2911) hd_X3_thrown (by decide) (by decide) rfl (by simp [zcat_rf, zcat_i, zcat_j, zcat_f, zcat_d]) (fun z hz => by cases hz) dL_law_1668 (fun r165 => ?_)
      show zS _ 1671 _ [.int r165] _
      refine zs_iload hE 1 rfl dL_law_1671 ?_
      refine zs_icmp_eq hE 1678 (by decide) dL_law_1673 ?_ ?_
      · refine zs_iload hE 1 rfl dL_law_1678 ?_
        refine zs_if_ne hE 1695 (by decide) dL_law_1680 ?_ ?_
        · refine zs_aload_n hE 5 rfl rfl dL_law_1683 ?_
          refine zs_iconst hE (v := (0 : Int32)) (by decide) dL_law_1684 ?_
          refine zs_aldJ hE dL_law_1685 (fun v166 => ?_)
          refine zs_iload hE 0 rfl dL_law_1686 ?_
          refine zs_i2l hE dL_law_1688 ?_
          refine zs_lcmp hE dL_law_1689 ?_
          refine zs_if_eq hE 1695 (by decide) dL_law_1690 ?_ ?_
          · refine zs_goto hE 2380 (by decide) dL_law_1695 ?_
            refine zs_iinc hE 7 (v := (5 : Int32)) rfl (by decide) (by decide) (zcat_rf (some x4)) (lv' := [(7, .int r164), (6, .int r163), (0, va_rf x0), (1, va_rf (some x1)), (2, va_rf (some x2)), (3, va_rf (some x3)), (4, va_rf (some x4))]) rfl dL_law_2380 ?_
            refine zs_goto hE 28 (by decide) dL_law_2383 ?_
            refine zs_sub [3, 4, 5, 6, 7, 0] rfl ?_
            exact hs28 (x5 + (5 : Int32))
          · refine zs_iconst hE (v := (0 : Int32)) (by decide) dL_law_1693 ?_
            exact zs_zret hE rfl dL_law_1694
        · refine zs_goto hE 2380 (by decide) dL_law_1695 ?_
          refine zs_iinc hE 7 (v := (5 : Int32)) rfl (by decide) (by decide) (zcat_rf (some x4)) (lv' := [(7, .int r164), (6, .int r163), (0, va_rf x0), (1, va_rf (some x1)), (2, va_rf (some x2)), (3, va_rf (some x3)), (4, va_rf (some x4))]) rfl dL_law_2380 ?_
          refine zs_goto hE 28 (by decide) dL_law_2383 ?_
          refine zs_sub [3, 4, 5, 6, 7, 0] rfl ?_
          exact hs28 (x5 + (5 : Int32))
      · refine zs_iconst hE (v := (0 : Int32)) (by decide) dL_law_1676 ?_
        exact zs_zret hE rfl dL_law_1677
    · refine zs_aload_n hE 1 rfl rfl dL_law_1698 ?_
      refine zs_aload_n hE 3 rfl rfl dL_law_1699 ?_
      refine zs_callSX hE (As := [va_rf (some x1), va_rf (some x3)]) (encA := encI) (met_X0_greatest K (some x1) (some x3)) q2433 q94 q2431 q2432 hd_X0_greatest (by decide) (by decide) rfl (by simp [zcat_rf, zcat_i, zcat_j, zcat_f, zcat_d]) (fun z hz => by cases hz) dL_law_1700 (fun r167 => ?_)
      show zS _ 1703 _ [.int r167] _
      refine zs_istore hE (i := 6) (by decide) (rfl) (lv' := [(0, va_rf x0), (1, va_rf (some x1)), (2, va_rf (some x2)), (3, va_rf (some x3)), (4, va_rf (some x4)), (5, .int x5)]) rfl dL_law_1703 ?_
      refine zs_aload_n hE 3 rfl rfl dL_law_1705 ?_
      refine zs_callV hE (As := []) (encA := encI) (ci := 35) rfl (fun y0 => met_X3_greatest K y0) q3183 q105 q3180 q3181 (zq q3182) hd_X3_greatest (by decide) (by decide) rfl (by simp [zcat_rf, zcat_i, zcat_j, zcat_f, zcat_d]) (fun z hz => by cases hz) dL_law_1706 (fun r168 => ?_)
      show zS _ 1709 _ [.int r168] _
      refine zs_istore hE (i := 7) (by decide) (rfl) (lv' := [(6, .int r167), (0, va_rf x0), (1, va_rf (some x1)), (2, va_rf (some x2)), (3, va_rf (some x3)), (4, va_rf (some x4)), (5, .int x5)]) rfl dL_law_1709 ?_
      refine zs_aload_n hE 4 rfl rfl dL_law_1711 ?_
      refine zs_callV hE (As := []) (encA := encI) (ci := 35) rfl (fun y0 => met_X3_thrown K y0) q2912 q105 q2909 q2910 (zq q2911) hd_X3_thrown (by decide) (by decide) rfl (by simp [zcat_rf, zcat_i, zcat_j, zcat_f, zcat_d]) (fun z hz => by cases hz) dL_law_1712 (fun r169 => ?_)
      show zS _ 1715 _ [.int r169] _
      refine zs_iload hE 1 rfl dL_law_1715 ?_
      refine zs_icmp_eq hE 1722 (by decide) dL_law_1717 ?_ ?_
      · refine zs_iload hE 1 rfl dL_law_1722 ?_
        refine zs_if_ne hE 1739 (by decide) dL_law_1724 ?_ ?_
        · refine zs_aload_n hE 5 rfl rfl dL_law_1727 ?_
          refine zs_iconst hE (v := (0 : Int32)) (by decide) dL_law_1728 ?_
          refine zs_aldJ hE dL_law_1729 (fun v170 => ?_)
          refine zs_iload hE 0 rfl dL_law_1730 ?_
          refine zs_i2l hE dL_law_1732 ?_
          refine zs_lcmp hE dL_law_1733 ?_
          refine zs_if_eq hE 1739 (by decide) dL_law_1734 ?_ ?_
          · refine zs_goto hE 2380 (by decide) dL_law_1739 ?_
            refine zs_iinc hE 7 (v := (5 : Int32)) rfl (by decide) (by decide) (zcat_rf (some x4)) (lv' := [(7, .int r168), (6, .int r167), (0, va_rf x0), (1, va_rf (some x1)), (2, va_rf (some x2)), (3, va_rf (some x3)), (4, va_rf (some x4))]) rfl dL_law_2380 ?_
            refine zs_goto hE 28 (by decide) dL_law_2383 ?_
            refine zs_sub [3, 4, 5, 6, 7, 0] rfl ?_
            exact hs28 (x5 + (5 : Int32))
          · refine zs_iconst hE (v := (0 : Int32)) (by decide) dL_law_1737 ?_
            exact zs_zret hE rfl dL_law_1738
        · refine zs_goto hE 2380 (by decide) dL_law_1739 ?_
          refine zs_iinc hE 7 (v := (5 : Int32)) rfl (by decide) (by decide) (zcat_rf (some x4)) (lv' := [(7, .int r168), (6, .int r167), (0, va_rf x0), (1, va_rf (some x1)), (2, va_rf (some x2)), (3, va_rf (some x3)), (4, va_rf (some x4))]) rfl dL_law_2380 ?_
          refine zs_goto hE 28 (by decide) dL_law_2383 ?_
          refine zs_sub [3, 4, 5, 6, 7, 0] rfl ?_
          exact hs28 (x5 + (5 : Int32))
      · refine zs_iconst hE (v := (0 : Int32)) (by decide) dL_law_1720 ?_
        exact zs_zret hE rfl dL_law_1721
    · refine zs_aload_n hE 1 rfl rfl dL_law_1742 ?_
      refine zs_callV hE (As := []) (encA := encI) (ci := 24) rfl (fun y0 => met_X1_waiting K y0) q419 q95 q416 q417 (zq q418) hd_X1_waiting (by decide) (by decide) rfl (by simp [zcat_rf, zcat_i, zcat_j, zcat_f, zcat_d]) (fun z hz => by cases hz) dL_law_1743 (fun r171 => ?_)
      show zS _ 1746 _ [.int r171] _
      refine zs_aload_n hE 2 rfl rfl dL_law_1746 ?_
      refine zs_callV hE (As := []) (encA := encI) (ci := 35) rfl (fun y0 => met_X3_waiting K y0) q3187 q105 q3184 q3185 (zq q3186) hd_X3_waiting (by decide) (by decide) rfl (by simp [zcat_rf, zcat_i, zcat_j, zcat_f, zcat_d]) (fun z hz => by cases hz) dL_law_1747 (fun r172 => ?_)
      show zS _ 1750 _ [.int r172, .int r171] _
      refine zs_icmp_eq hE 2380 (by decide) dL_law_1750 ?_ ?_
      · refine zs_iinc hE 5 (v := (5 : Int32)) rfl (by decide) (by decide) (zcat_rf (some x4)) (lv' := [(0, va_rf x0), (1, va_rf (some x1)), (2, va_rf (some x2)), (3, va_rf (some x3)), (4, va_rf (some x4))]) rfl dL_law_2380 ?_
        refine zs_goto hE 28 (by decide) dL_law_2383 ?_
        refine zs_sub [1, 2, 3, 4, 5, 0] rfl ?_
        exact hs28 (x5 + (5 : Int32))
      · refine zs_iconst hE (v := (0 : Int32)) (by decide) dL_law_1753 ?_
        exact zs_zret hE rfl dL_law_1754
    · refine zs_aload_n hE 1 rfl rfl dL_law_1755 ?_
      refine zs_callV hE (As := []) (encA := encI) (ci := 24) rfl (fun y0 => met_X1_waitingAgain K y0) q1106 q95 q1103 q1104 (zq q1105) hd_X1_waitingAgain (by decide) (by decide) rfl (by simp [zcat_rf, zcat_i, zcat_j, zcat_f, zcat_d]) (fun z hz => by cases hz) dL_law_1756 (fun r173 => ?_)
      show zS _ 1759 _ [.int r173] _
      refine zs_aload_n hE 2 rfl rfl dL_law_1759 ?_
      refine zs_callV hE (As := []) (encA := encI) (ci := 35) rfl (fun y0 => met_X3_waitingAgain K y0) q3191 q105 q3188 q3189 (zq q3190) hd_X3_waitingAgain (by decide) (by decide) rfl (by simp [zcat_rf, zcat_i, zcat_j, zcat_f, zcat_d]) (fun z hz => by cases hz) dL_law_1760 (fun r174 => ?_)
      show zS _ 1763 _ [.int r174, .int r173] _
      refine zs_icmp_eq hE 2380 (by decide) dL_law_1763 ?_ ?_
      · refine zs_iinc hE 5 (v := (5 : Int32)) rfl (by decide) (by decide) (zcat_rf (some x4)) (lv' := [(0, va_rf x0), (1, va_rf (some x1)), (2, va_rf (some x2)), (3, va_rf (some x3)), (4, va_rf (some x4))]) rfl dL_law_2380 ?_
        refine zs_goto hE 28 (by decide) dL_law_2383 ?_
        refine zs_sub [1, 2, 3, 4, 5, 0] rfl ?_
        exact hs28 (x5 + (5 : Int32))
      · refine zs_iconst hE (v := (0 : Int32)) (by decide) dL_law_1766 ?_
        exact zs_zret hE rfl dL_law_1767
    · refine zs_aload_n hE 1 rfl rfl dL_law_1768 ?_
      refine zs_aload_n hE 0 rfl rfl dL_law_1769 ?_
      refine zs_iload hE 5 rfl dL_law_1770 ?_
      refine zs_iconst hE (v := (1 : Int32)) (by decide) dL_law_1772 ?_
      refine zs_iadd hE dL_law_1773 ?_
      refine zs_aldKI hE dL_law_1774 (fun v175 => ?_)
      refine zs_i2c hE dL_law_1775 ?_
      refine zs_aload_n hE 3 rfl rfl dL_law_1776 ?_
      refine zs_callSX hE (As := [va_rf (some x1), .int ((v175.toUInt32 % 65536).toInt32), va_rf (some x3)]) (encA := encI) (met_X0_append K (some x1) ((v175.toUInt32 % 65536).toInt32) (some x3)) q2441 q94 q2439 q2440 hd_X0_append (by decide) (by decide) rfl (by simp [zcat_rf, zcat_i, zcat_j, zcat_f, zcat_d]) (fun z hz => by cases hz) dL_law_1777 (fun r176 => ?_)
      show zS _ 1780 _ [.int r176] _
      refine zs_istore hE (i := 6) (by decide) (rfl) (lv' := [(0, va_rf x0), (1, va_rf (some x1)), (2, va_rf (some x2)), (3, va_rf (some x3)), (4, va_rf (some x4)), (5, .int x5)]) rfl dL_law_1780 ?_
      refine zs_aload_n hE 3 rfl rfl dL_law_1782 ?_
      refine zs_aload_n hE 1 rfl rfl dL_law_1783 ?_
      refine zs_iload hE 6 rfl dL_law_1784 ?_
      refine zs_iconst hE (v := (1 : Int32)) (by decide) dL_law_1786 ?_
      refine zs_iadd hE dL_law_1787 ?_
      refine zs_aldKI hE dL_law_1788 (fun v177 => ?_)
      refine zs_i2c hE dL_law_1789 ?_
      refine zs_callV hE (As := [.int ((v177.toUInt32 % 65536).toInt32)]) (encA := encI) (ci := 35) rfl (fun y0 => met_X3_append K y0 ((v177.toUInt32 % 65536).toInt32)) q3195 q105 q3192 q3193 (zq q3194) hd_X3_append (by decide) (by decide) rfl (by simp [zcat_rf, zcat_i, zcat_j, zcat_f, zcat_d]) (fun z hz => by cases hz) dL_law_1790 (fun r178 => ?_)
      show zS _ 1793 _ [.int r178] _
      refine zs_istore hE (i := 7) (by decide) (rfl) (lv' := [(6, .int r176), (0, va_rf x0), (1, va_rf (some x1)), (2, va_rf (some x2)), (3, va_rf (some x3)), (4, va_rf (some x4)), (5, .int x5)]) rfl dL_law_1793 ?_
      refine zs_aload_n hE 4 rfl rfl dL_law_1795 ?_
      refine zs_callV hE (As := []) (encA := encI) (ci := 35) rfl (fun y0 => met_X3_thrown K y0) q2912 q105 q2909 q2910 (zq q2911) hd_X3_thrown (by decide) (by decide) rfl (by simp [zcat_rf, zcat_i, zcat_j, zcat_f, zcat_d]) (fun z hz => by cases hz) dL_law_1796 (fun r179 => ?_)
      show zS _ 1799 _ [.int r179] _
      refine zs_iload hE 1 rfl dL_law_1799 ?_
      refine zs_icmp_eq hE 1806 (by decide) dL_law_1801 ?_ ?_
      · refine zs_iload hE 1 rfl dL_law_1806 ?_
        refine zs_if_ne hE 1823 (by decide) dL_law_1808 ?_ ?_
        · refine zs_aload_n hE 5 rfl rfl dL_law_1811 ?_
          refine zs_iconst hE (v := (0 : Int32)) (by decide) dL_law_1812 ?_
          refine zs_aldJ hE dL_law_1813 (fun v180 => ?_)
          refine zs_iload hE 0 rfl dL_law_1814 ?_
          refine zs_i2l hE dL_law_1816 ?_
          refine zs_lcmp hE dL_law_1817 ?_
          refine zs_if_eq hE 1823 (by decide) dL_law_1818 ?_ ?_
          · refine zs_goto hE 2380 (by decide) dL_law_1823 ?_
            refine zs_iinc hE 7 (v := (5 : Int32)) rfl (by decide) (by decide) (zcat_rf (some x4)) (lv' := [(7, .int r178), (6, .int r176), (0, va_rf x0), (1, va_rf (some x1)), (2, va_rf (some x2)), (3, va_rf (some x3)), (4, va_rf (some x4))]) rfl dL_law_2380 ?_
            refine zs_goto hE 28 (by decide) dL_law_2383 ?_
            refine zs_sub [3, 4, 5, 6, 7, 0] rfl ?_
            exact hs28 (x5 + (5 : Int32))
          · refine zs_iconst hE (v := (0 : Int32)) (by decide) dL_law_1821 ?_
            exact zs_zret hE rfl dL_law_1822
        · refine zs_goto hE 2380 (by decide) dL_law_1823 ?_
          refine zs_iinc hE 7 (v := (5 : Int32)) rfl (by decide) (by decide) (zcat_rf (some x4)) (lv' := [(7, .int r178), (6, .int r176), (0, va_rf x0), (1, va_rf (some x1)), (2, va_rf (some x2)), (3, va_rf (some x3)), (4, va_rf (some x4))]) rfl dL_law_2380 ?_
          refine zs_goto hE 28 (by decide) dL_law_2383 ?_
          refine zs_sub [3, 4, 5, 6, 7, 0] rfl ?_
          exact hs28 (x5 + (5 : Int32))
      · refine zs_iconst hE (v := (0 : Int32)) (by decide) dL_law_1804 ?_
        exact zs_zret hE rfl dL_law_1805
    · refine zs_aload_n hE 1 rfl rfl dL_law_1826 ?_
      refine zs_aload_n hE 3 rfl rfl dL_law_1827 ?_
      refine zs_callSX hE (As := [va_rf (some x1), va_rf (some x3)]) (encA := encI) (met_X0_run K (some x1) (some x3)) q2457 q94 q2455 q2456 hd_X0_run (by decide) (by decide) rfl (by simp [zcat_rf, zcat_i, zcat_j, zcat_f, zcat_d]) (fun z hz => by cases hz) dL_law_1828 (fun r181 => ?_)
      show zS _ 1831 _ [.int r181] _
      refine zs_istore hE (i := 6) (by decide) (rfl) (lv' := [(0, va_rf x0), (1, va_rf (some x1)), (2, va_rf (some x2)), (3, va_rf (some x3)), (4, va_rf (some x4)), (5, .int x5)]) rfl dL_law_1831 ?_
      refine zs_aload_n hE 3 rfl rfl dL_law_1833 ?_
      refine zs_callV hE (As := []) (encA := encI) (ci := 35) rfl (fun y0 => met_X3_run K y0) q3199 q105 q3196 q3197 (zq q3198) hd_X3_run (by decide) (by decide) rfl (by simp [zcat_rf, zcat_i, zcat_j, zcat_f, zcat_d]) (fun z hz => by cases hz) dL_law_1834 (fun r182 => ?_)
      show zS _ 1837 _ [.int r182] _
      refine zs_istore hE (i := 7) (by decide) (rfl) (lv' := [(6, .int r181), (0, va_rf x0), (1, va_rf (some x1)), (2, va_rf (some x2)), (3, va_rf (some x3)), (4, va_rf (some x4)), (5, .int x5)]) rfl dL_law_1837 ?_
      refine zs_aload_n hE 4 rfl rfl dL_law_1839 ?_
      refine zs_callV hE (As := []) (encA := encI) (ci := 35) rfl (fun y0 => met_X3_thrown K y0) q2912 q105 q2909 q2910 (zq q2911) hd_X3_thrown (by decide) (by decide) rfl (by simp [zcat_rf, zcat_i, zcat_j, zcat_f, zcat_d]) (fun z hz => by cases hz) dL_law_1840 (fun r183 => ?_)
      show zS _ 1843 _ [.int r183] _
      refine zs_iload hE 1 rfl dL_law_1843 ?_
      refine zs_icmp_eq hE 1850 (by decide) dL_law_1845 ?_ ?_
      · refine zs_iload hE 1 rfl dL_law_1850 ?_
        refine zs_if_ne hE 1867 (by decide) dL_law_1852 ?_ ?_
        · refine zs_aload_n hE 5 rfl rfl dL_law_1855 ?_
          refine zs_iconst hE (v := (0 : Int32)) (by decide) dL_law_1856 ?_
          refine zs_aldJ hE dL_law_1857 (fun v184 => ?_)
          refine zs_iload hE 0 rfl dL_law_1858 ?_
          refine zs_i2l hE dL_law_1860 ?_
          refine zs_lcmp hE dL_law_1861 ?_
          refine zs_if_eq hE 1867 (by decide) dL_law_1862 ?_ ?_
          · refine zs_goto hE 2380 (by decide) dL_law_1867 ?_
            refine zs_iinc hE 7 (v := (5 : Int32)) rfl (by decide) (by decide) (zcat_rf (some x4)) (lv' := [(7, .int r182), (6, .int r181), (0, va_rf x0), (1, va_rf (some x1)), (2, va_rf (some x2)), (3, va_rf (some x3)), (4, va_rf (some x4))]) rfl dL_law_2380 ?_
            refine zs_goto hE 28 (by decide) dL_law_2383 ?_
            refine zs_sub [3, 4, 5, 6, 7, 0] rfl ?_
            exact hs28 (x5 + (5 : Int32))
          · refine zs_iconst hE (v := (0 : Int32)) (by decide) dL_law_1865 ?_
            exact zs_zret hE rfl dL_law_1866
        · refine zs_goto hE 2380 (by decide) dL_law_1867 ?_
          refine zs_iinc hE 7 (v := (5 : Int32)) rfl (by decide) (by decide) (zcat_rf (some x4)) (lv' := [(7, .int r182), (6, .int r181), (0, va_rf x0), (1, va_rf (some x1)), (2, va_rf (some x2)), (3, va_rf (some x3)), (4, va_rf (some x4))]) rfl dL_law_2380 ?_
          refine zs_goto hE 28 (by decide) dL_law_2383 ?_
          refine zs_sub [3, 4, 5, 6, 7, 0] rfl ?_
          exact hs28 (x5 + (5 : Int32))
      · refine zs_iconst hE (v := (0 : Int32)) (by decide) dL_law_1848 ?_
        exact zs_zret hE rfl dL_law_1849
    · refine zs_aload_n hE 1 rfl rfl dL_law_1870 ?_
      refine zs_callV hE (As := []) (encA := encI) (ci := 24) rfl (fun y0 => met_X1_faultPosition K y0) q1110 q95 q1107 q1108 (zq q1109) hd_X1_faultPosition (by decide) (by decide) rfl (by simp [zcat_rf, zcat_i, zcat_j, zcat_f, zcat_d]) (fun z hz => by cases hz) dL_law_1871 (fun r185 => ?_)
      show zS _ 1874 _ [.int r185] _
      refine zs_aload_n hE 2 rfl rfl dL_law_1874 ?_
      refine zs_callV hE (As := []) (encA := encI) (ci := 35) rfl (fun y0 => met_X3_faultPosition K y0) q3231 q105 q3228 q3229 (zq q3230) hd_X3_faultPosition (by decide) (by decide) rfl (by simp [zcat_rf, zcat_i, zcat_j, zcat_f, zcat_d]) (fun z hz => by cases hz) dL_law_1875 (fun r186 => ?_)
      show zS _ 1878 _ [.int r186, .int r185] _
      refine zs_icmp_eq hE 2380 (by decide) dL_law_1878 ?_ ?_
      · refine zs_iinc hE 5 (v := (5 : Int32)) rfl (by decide) (by decide) (zcat_rf (some x4)) (lv' := [(0, va_rf x0), (1, va_rf (some x1)), (2, va_rf (some x2)), (3, va_rf (some x3)), (4, va_rf (some x4))]) rfl dL_law_2380 ?_
        refine zs_goto hE 28 (by decide) dL_law_2383 ?_
        refine zs_sub [1, 2, 3, 4, 5, 0] rfl ?_
        exact hs28 (x5 + (5 : Int32))
      · refine zs_iconst hE (v := (0 : Int32)) (by decide) dL_law_1881 ?_
        exact zs_zret hE rfl dL_law_1882
    · refine zs_aload_n hE 1 rfl rfl dL_law_1883 ?_
      refine zs_aload_n hE 0 rfl rfl dL_law_1884 ?_
      refine zs_iload hE 5 rfl dL_law_1885 ?_
      refine zs_iconst hE (v := (1 : Int32)) (by decide) dL_law_1887 ?_
      refine zs_iadd hE dL_law_1888 ?_
      refine zs_aldKI hE dL_law_1889 (fun v187 => ?_)
      refine zs_aload_n hE 0 rfl rfl dL_law_1890 ?_
      refine zs_iload hE 5 rfl dL_law_1891 ?_
      refine zs_iconst hE (v := (2 : Int32)) (by decide) dL_law_1893 ?_
      refine zs_iadd hE dL_law_1894 ?_
      refine zs_aldKI hE dL_law_1895 (fun v188 => ?_)
      refine zs_if_eq hE 1903 (by decide) dL_law_1896 ?_ ?_
      · refine zs_iconst hE (v := (0 : Int32)) (by decide) dL_law_1903 ?_
        exact sm_X0_law_J1904 hE x0 x1 x2 x3 x4 x5 (0 : Int32) v187 x1 self28 hs28
      · refine zs_iconst hE (v := (1 : Int32)) (by decide) dL_law_1899 ?_
        refine zs_goto hE 1904 (by decide) dL_law_1900 ?_
        exact sm_X0_law_J1904 hE x0 x1 x2 x3 x4 x5 (1 : Int32) v187 x1 self28 hs28
    · refine zs_aload_n hE 1 rfl rfl dL_law_1967 ?_
      refine zs_callV hE (As := []) (encA := encI) (ci := 24) rfl (fun y0 => met_X1_tellRing K y0) q1114 q95 q1111 q1112 (zq q1113) hd_X1_tellRing (by decide) (by decide) rfl (by simp [zcat_rf, zcat_i, zcat_j, zcat_f, zcat_d]) (fun z hz => by cases hz) dL_law_1968 (fun r195 => ?_)
      show zS _ 1971 _ [.int r195] _
      refine zs_aload_n hE 2 rfl rfl dL_law_1971 ?_
      refine zs_callV hE (As := []) (encA := encI) (ci := 35) rfl (fun y0 => met_X3_tellRing K y0) q3239 q105 q3236 q3237 (zq q3238) hd_X3_tellRing (by decide) (by decide) rfl (by simp [zcat_rf, zcat_i, zcat_j, zcat_f, zcat_d]) (fun z hz => by cases hz) dL_law_1972 (fun r196 => ?_)
      show zS _ 1975 _ [.int r196, .int r195] _
      refine zs_icmp_eq hE 2380 (by decide) dL_law_1975 ?_ ?_
      · refine zs_iinc hE 5 (v := (5 : Int32)) rfl (by decide) (by decide) (zcat_rf (some x4)) (lv' := [(0, va_rf x0), (1, va_rf (some x1)), (2, va_rf (some x2)), (3, va_rf (some x3)), (4, va_rf (some x4))]) rfl dL_law_2380 ?_
        refine zs_goto hE 28 (by decide) dL_law_2383 ?_
        refine zs_sub [1, 2, 3, 4, 5, 0] rfl ?_
        exact hs28 (x5 + (5 : Int32))
      · refine zs_iconst hE (v := (0 : Int32)) (by decide) dL_law_1978 ?_
        exact zs_zret hE rfl dL_law_1979
    · refine zs_aload_n hE 1 rfl rfl dL_law_1980 ?_
      refine zs_aload_n hE 0 rfl rfl dL_law_1981 ?_
      refine zs_iload hE 5 rfl dL_law_1982 ?_
      refine zs_iconst hE (v := (1 : Int32)) (by decide) dL_law_1984 ?_
      refine zs_iadd hE dL_law_1985 ?_
      refine zs_aldKI hE dL_law_1986 (fun v197 => ?_)
      refine zs_aload_n hE 3 rfl rfl dL_law_1987 ?_
      refine zs_callSX hE (As := [va_rf (some x1), .int v197, va_rf (some x3)]) (encA := encI) (met_X0_tellQueue K (some x1) v197 (some x3)) q2729 q94 q2727 q2728 hd_X0_tellQueue (by decide) (by decide) rfl (by simp [zcat_rf, zcat_i, zcat_j, zcat_f, zcat_d]) (fun z hz => by cases hz) dL_law_1988 (fun r198 => ?_)
      show zS _ 1991 _ [.int r198] _
      refine zs_istore hE (i := 6) (by decide) (rfl) (lv' := [(0, va_rf x0), (1, va_rf (some x1)), (2, va_rf (some x2)), (3, va_rf (some x3)), (4, va_rf (some x4)), (5, .int x5)]) rfl dL_law_1991 ?_
      refine zs_aload_n hE 3 rfl rfl dL_law_1993 ?_
      refine zs_aload_n hE 1 rfl rfl dL_law_1994 ?_
      refine zs_iload hE 6 rfl dL_law_1995 ?_
      refine zs_iconst hE (v := (1 : Int32)) (by decide) dL_law_1997 ?_
      refine zs_iadd hE dL_law_1998 ?_
      refine zs_aldKI hE dL_law_1999 (fun v199 => ?_)
      refine zs_callV hE (As := [.int v199]) (encA := encI) (ci := 35) rfl (fun y0 => met_X3_tellQueue K y0 v199) q3255 q105 q3252 q3253 (zq q3254) hd_X3_tellQueue (by decide) (by decide) rfl (by simp [zcat_rf, zcat_i, zcat_j, zcat_f, zcat_d]) (fun z hz => by cases hz) dL_law_2000 (fun r200 => ?_)
      show zS _ 2003 _ [.int r200] _
      refine zs_istore hE (i := 7) (by decide) (rfl) (lv' := [(6, .int r198), (0, va_rf x0), (1, va_rf (some x1)), (2, va_rf (some x2)), (3, va_rf (some x3)), (4, va_rf (some x4)), (5, .int x5)]) rfl dL_law_2003 ?_
      refine zs_aload_n hE 4 rfl rfl dL_law_2005 ?_
      refine zs_callV hE (As := []) (encA := encI) (ci := 35) rfl (fun y0 => met_X3_thrown K y0) q2912 q105 q2909 q2910 (zq q2911) hd_X3_thrown (by decide) (by decide) rfl (by simp [zcat_rf, zcat_i, zcat_j, zcat_f, zcat_d]) (fun z hz => by cases hz) dL_law_2006 (fun r201 => ?_)
      show zS _ 2009 _ [.int r201] _
      refine zs_iload hE 1 rfl dL_law_2009 ?_
      refine zs_icmp_eq hE 2016 (by decide) dL_law_2011 ?_ ?_
      · refine zs_iload hE 1 rfl dL_law_2016 ?_
        refine zs_if_ne hE 2033 (by decide) dL_law_2018 ?_ ?_
        · refine zs_aload_n hE 5 rfl rfl dL_law_2021 ?_
          refine zs_iconst hE (v := (0 : Int32)) (by decide) dL_law_2022 ?_
          refine zs_aldJ hE dL_law_2023 (fun v202 => ?_)
          refine zs_iload hE 0 rfl dL_law_2024 ?_
          refine zs_i2l hE dL_law_2026 ?_
          refine zs_lcmp hE dL_law_2027 ?_
          refine zs_if_eq hE 2033 (by decide) dL_law_2028 ?_ ?_
          · refine zs_goto hE 2380 (by decide) dL_law_2033 ?_
            refine zs_iinc hE 7 (v := (5 : Int32)) rfl (by decide) (by decide) (zcat_rf (some x4)) (lv' := [(7, .int r200), (6, .int r198), (0, va_rf x0), (1, va_rf (some x1)), (2, va_rf (some x2)), (3, va_rf (some x3)), (4, va_rf (some x4))]) rfl dL_law_2380 ?_
            refine zs_goto hE 28 (by decide) dL_law_2383 ?_
            refine zs_sub [3, 4, 5, 6, 7, 0] rfl ?_
            exact hs28 (x5 + (5 : Int32))
          · refine zs_iconst hE (v := (0 : Int32)) (by decide) dL_law_2031 ?_
            exact zs_zret hE rfl dL_law_2032
        · refine zs_goto hE 2380 (by decide) dL_law_2033 ?_
          refine zs_iinc hE 7 (v := (5 : Int32)) rfl (by decide) (by decide) (zcat_rf (some x4)) (lv' := [(7, .int r200), (6, .int r198), (0, va_rf x0), (1, va_rf (some x1)), (2, va_rf (some x2)), (3, va_rf (some x3)), (4, va_rf (some x4))]) rfl dL_law_2380 ?_
          refine zs_goto hE 28 (by decide) dL_law_2383 ?_
          refine zs_sub [3, 4, 5, 6, 7, 0] rfl ?_
          exact hs28 (x5 + (5 : Int32))
      · refine zs_iconst hE (v := (0 : Int32)) (by decide) dL_law_2014 ?_
        exact zs_zret hE rfl dL_law_2015
    · refine zs_aload_n hE 1 rfl rfl dL_law_2036 ?_
      refine zs_aload_n hE 0 rfl rfl dL_law_2037 ?_
      refine zs_iload hE 5 rfl dL_law_2038 ?_
      refine zs_iconst hE (v := (1 : Int32)) (by decide) dL_law_2040 ?_
      refine zs_iadd hE dL_law_2041 ?_
      refine zs_aldKI hE dL_law_2042 (fun v203 => ?_)
      refine zs_aload_n hE 3 rfl rfl dL_law_2043 ?_
      refine zs_callSX hE (As := [va_rf (some x1), .int v203, va_rf (some x3)]) (encA := encI) (met_X0_character K (some x1) v203 (some x3)) q2737 q94 q2735 q2736 hd_X0_character (by decide) (by decide) rfl (by simp [zcat_rf, zcat_i, zcat_j, zcat_f, zcat_d]) (fun z hz => by cases hz) dL_law_2044 (fun r204 => ?_)
      show zS _ 2047 _ [.int r204] _
      refine zs_istore hE (i := 6) (by decide) (rfl) (lv' := [(0, va_rf x0), (1, va_rf (some x1)), (2, va_rf (some x2)), (3, va_rf (some x3)), (4, va_rf (some x4)), (5, .int x5)]) rfl dL_law_2047 ?_
      refine zs_aload_n hE 3 rfl rfl dL_law_2049 ?_
      refine zs_aload_n hE 1 rfl rfl dL_law_2050 ?_
      refine zs_iload hE 6 rfl dL_law_2051 ?_
      refine zs_iconst hE (v := (1 : Int32)) (by decide) dL_law_2053 ?_
      refine zs_iadd hE dL_law_2054 ?_
      refine zs_aldKI hE dL_law_2055 (fun v205 => ?_)
      refine zs_callV hE (As := [.int v205]) (encA := encI) (ci := 35) rfl (fun y0 => met_X3_character K y0 v205) q3259 q105 q3256 q3257 (zq q3258) hd_X3_character (by decide) (by decide) rfl (by simp [zcat_rf, zcat_i, zcat_j, zcat_f, zcat_d]) (fun z hz => by cases hz) dL_law_2056 (fun r206 => ?_)
      show zS _ 2059 _ [.int r206] _
      refine zs_istore hE (i := 7) (by decide) (rfl) (lv' := [(6, .int r204), (0, va_rf x0), (1, va_rf (some x1)), (2, va_rf (some x2)), (3, va_rf (some x3)), (4, va_rf (some x4)), (5, .int x5)]) rfl dL_law_2059 ?_
      refine zs_aload_n hE 4 rfl rfl dL_law_2061 ?_
      refine zs_callV hE (As := []) (encA := encI) (ci := 35) rfl (fun y0 => met_X3_thrown K y0) q2912 q105 q2909 q2910 (zq q2911) hd_X3_thrown (by decide) (by decide) rfl (by simp [zcat_rf, zcat_i, zcat_j, zcat_f, zcat_d]) (fun z hz => by cases hz) dL_law_2062 (fun r207 => ?_)
      show zS _ 2065 _ [.int r207] _
      refine zs_iload hE 1 rfl dL_law_2065 ?_
      refine zs_icmp_eq hE 2072 (by decide) dL_law_2067 ?_ ?_
      · refine zs_iload hE 1 rfl dL_law_2072 ?_
        refine zs_if_ne hE 2089 (by decide) dL_law_2074 ?_ ?_
        · refine zs_aload_n hE 5 rfl rfl dL_law_2077 ?_
          refine zs_iconst hE (v := (0 : Int32)) (by decide) dL_law_2078 ?_
          refine zs_aldJ hE dL_law_2079 (fun v208 => ?_)
          refine zs_iload hE 0 rfl dL_law_2080 ?_
          refine zs_i2l hE dL_law_2082 ?_
          refine zs_lcmp hE dL_law_2083 ?_
          refine zs_if_eq hE 2089 (by decide) dL_law_2084 ?_ ?_
          · refine zs_goto hE 2380 (by decide) dL_law_2089 ?_
            refine zs_iinc hE 7 (v := (5 : Int32)) rfl (by decide) (by decide) (zcat_rf (some x4)) (lv' := [(7, .int r206), (6, .int r204), (0, va_rf x0), (1, va_rf (some x1)), (2, va_rf (some x2)), (3, va_rf (some x3)), (4, va_rf (some x4))]) rfl dL_law_2380 ?_
            refine zs_goto hE 28 (by decide) dL_law_2383 ?_
            refine zs_sub [3, 4, 5, 6, 7, 0] rfl ?_
            exact hs28 (x5 + (5 : Int32))
          · refine zs_iconst hE (v := (0 : Int32)) (by decide) dL_law_2087 ?_
            exact zs_zret hE rfl dL_law_2088
        · refine zs_goto hE 2380 (by decide) dL_law_2089 ?_
          refine zs_iinc hE 7 (v := (5 : Int32)) rfl (by decide) (by decide) (zcat_rf (some x4)) (lv' := [(7, .int r206), (6, .int r204), (0, va_rf x0), (1, va_rf (some x1)), (2, va_rf (some x2)), (3, va_rf (some x3)), (4, va_rf (some x4))]) rfl dL_law_2380 ?_
          refine zs_goto hE 28 (by decide) dL_law_2383 ?_
          refine zs_sub [3, 4, 5, 6, 7, 0] rfl ?_
          exact hs28 (x5 + (5 : Int32))
      · refine zs_iconst hE (v := (0 : Int32)) (by decide) dL_law_2070 ?_
        exact zs_zret hE rfl dL_law_2071
    · refine zs_aload_n hE 1 rfl rfl dL_law_2092 ?_
      refine zs_aload_n hE 0 rfl rfl dL_law_2093 ?_
      refine zs_iload hE 5 rfl dL_law_2094 ?_
      refine zs_iconst hE (v := (1 : Int32)) (by decide) dL_law_2096 ?_
      refine zs_iadd hE dL_law_2097 ?_
      refine zs_aldKI hE dL_law_2098 (fun v209 => ?_)
      refine zs_aload_n hE 3 rfl rfl dL_law_2099 ?_
      refine zs_callSX hE (As := [va_rf (some x1), .int v209, va_rf (some x3)]) (encA := encI) (met_X0_account K (some x1) v209 (some x3)) q2745 q94 q2743 q2744 hd_X0_account (by decide) (by decide) rfl (by simp [zcat_rf, zcat_i, zcat_j, zcat_f, zcat_d]) (fun z hz => by cases hz) dL_law_2100 (fun r210 => ?_)
      show zS _ 2103 _ [.int r210] _
      refine zs_istore hE (i := 6) (by decide) (rfl) (lv' := [(0, va_rf x0), (1, va_rf (some x1)), (2, va_rf (some x2)), (3, va_rf (some x3)), (4, va_rf (some x4)), (5, .int x5)]) rfl dL_law_2103 ?_
      refine zs_aload_n hE 3 rfl rfl dL_law_2105 ?_
      refine zs_aload_n hE 1 rfl rfl dL_law_2106 ?_
      refine zs_iload hE 6 rfl dL_law_2107 ?_
      refine zs_iconst hE (v := (1 : Int32)) (by decide) dL_law_2109 ?_
      refine zs_iadd hE dL_law_2110 ?_
      refine zs_aldKI hE dL_law_2111 (fun v211 => ?_)
      refine zs_callV hE (As := [.int v211]) (encA := encI) (ci := 35) rfl (fun y0 => met_X3_account K y0 v211) q3263 q105 q3260 q3261 (zq q3262) hd_X3_account (by decide) (by decide) rfl (by simp [zcat_rf, zcat_i, zcat_j, zcat_f, zcat_d]) (fun z hz => by cases hz) dL_law_2112 (fun r212 => ?_)
      show zS _ 2115 _ [.int r212] _
      refine zs_istore hE (i := 7) (by decide) (rfl) (lv' := [(6, .int r210), (0, va_rf x0), (1, va_rf (some x1)), (2, va_rf (some x2)), (3, va_rf (some x3)), (4, va_rf (some x4)), (5, .int x5)]) rfl dL_law_2115 ?_
      refine zs_aload_n hE 4 rfl rfl dL_law_2117 ?_
      refine zs_callV hE (As := []) (encA := encI) (ci := 35) rfl (fun y0 => met_X3_thrown K y0) q2912 q105 q2909 q2910 (zq q2911) hd_X3_thrown (by decide) (by decide) rfl (by simp [zcat_rf, zcat_i, zcat_j, zcat_f, zcat_d]) (fun z hz => by cases hz) dL_law_2118 (fun r213 => ?_)
      show zS _ 2121 _ [.int r213] _
      refine zs_iload hE 1 rfl dL_law_2121 ?_
      refine zs_icmp_eq hE 2128 (by decide) dL_law_2123 ?_ ?_
      · refine zs_iload hE 1 rfl dL_law_2128 ?_
        refine zs_if_ne hE 2145 (by decide) dL_law_2130 ?_ ?_
        · refine zs_aload_n hE 5 rfl rfl dL_law_2133 ?_
          refine zs_iconst hE (v := (0 : Int32)) (by decide) dL_law_2134 ?_
          refine zs_aldJ hE dL_law_2135 (fun v214 => ?_)
          refine zs_iload hE 0 rfl dL_law_2136 ?_
          refine zs_i2l hE dL_law_2138 ?_
          refine zs_lcmp hE dL_law_2139 ?_
          refine zs_if_eq hE 2145 (by decide) dL_law_2140 ?_ ?_
          · refine zs_goto hE 2380 (by decide) dL_law_2145 ?_
            refine zs_iinc hE 7 (v := (5 : Int32)) rfl (by decide) (by decide) (zcat_rf (some x4)) (lv' := [(7, .int r212), (6, .int r210), (0, va_rf x0), (1, va_rf (some x1)), (2, va_rf (some x2)), (3, va_rf (some x3)), (4, va_rf (some x4))]) rfl dL_law_2380 ?_
            refine zs_goto hE 28 (by decide) dL_law_2383 ?_
            refine zs_sub [3, 4, 5, 6, 7, 0] rfl ?_
            exact hs28 (x5 + (5 : Int32))
          · refine zs_iconst hE (v := (0 : Int32)) (by decide) dL_law_2143 ?_
            exact zs_zret hE rfl dL_law_2144
        · refine zs_goto hE 2380 (by decide) dL_law_2145 ?_
          refine zs_iinc hE 7 (v := (5 : Int32)) rfl (by decide) (by decide) (zcat_rf (some x4)) (lv' := [(7, .int r212), (6, .int r210), (0, va_rf x0), (1, va_rf (some x1)), (2, va_rf (some x2)), (3, va_rf (some x3)), (4, va_rf (some x4))]) rfl dL_law_2380 ?_
          refine zs_goto hE 28 (by decide) dL_law_2383 ?_
          refine zs_sub [3, 4, 5, 6, 7, 0] rfl ?_
          exact hs28 (x5 + (5 : Int32))
      · refine zs_iconst hE (v := (0 : Int32)) (by decide) dL_law_2126 ?_
        exact zs_zret hE rfl dL_law_2127
    · refine zs_aload_n hE 1 rfl rfl dL_law_2148 ?_
      refine zs_aload hE 4 rfl dL_law_2149 ?_
      refine zs_callSX hE (As := [va_rf (some x1), va_rf (some x4)]) (encA := encI) (met_X0_meanDelay K (some x1) (some x4)) q2752 q94 q2750 q2751 hd_X0_meanDelay (by decide) (by decide) rfl (by simp [zcat_rf, zcat_i, zcat_j, zcat_f, zcat_d]) (fun z hz => by cases hz) dL_law_2151 (fun r215 => ?_)
      show zS _ 2154 _ [.int r215] _
      refine zs_istore hE (i := 6) (by decide) (rfl) (lv' := [(0, va_rf x0), (1, va_rf (some x1)), (2, va_rf (some x2)), (3, va_rf (some x3)), (4, va_rf (some x4)), (5, .int x5)]) rfl dL_law_2154 ?_
      refine zs_aload_n hE 3 rfl rfl dL_law_2156 ?_
      refine zs_callV hE (As := []) (encA := encD) (ci := 35) rfl (fun y0 => met_X3_meanDelay K y0) q3267 q105 q3264 q3265 (zq q3266) hd_X3_meanDelay (by decide) (by decide) rfl (by simp [zcat_rf, zcat_i, zcat_j, zcat_f, zcat_d]) (fun z hz => by cases hz) dL_law_2157 (fun r216 => ?_)
      show zS _ 2160 _ [.double r216] _
      refine zs_dstore hE (i := 7) (by decide) (rfl) (lv' := [(6, .int r215), (0, va_rf x0), (1, va_rf (some x1)), (2, va_rf (some x2)), (3, va_rf (some x3)), (4, va_rf (some x4)), (5, .int x5)]) rfl dL_law_2160 ?_
      refine zs_aload_n hE 4 rfl rfl dL_law_2162 ?_
      refine zs_callV hE (As := []) (encA := encI) (ci := 35) rfl (fun y0 => met_X3_thrown K y0) q2912 q105 q2909 q2910 (zq q2911) hd_X3_thrown (by decide) (by decide) rfl (by simp [zcat_rf, zcat_i, zcat_j, zcat_f, zcat_d]) (fun z hz => by cases hz) dL_law_2163 (fun r217 => ?_)
      show zS _ 2166 _ [.int r217] _
      refine zs_iload hE 1 rfl dL_law_2166 ?_
      refine zs_icmp_eq hE 2173 (by decide) dL_law_2168 ?_ ?_
      · refine zs_iload hE 1 rfl dL_law_2173 ?_
        refine zs_if_ne hE 2210 (by decide) dL_law_2175 ?_ ?_
        · refine zs_aload hE 6 rfl dL_law_2178 ?_
          refine zs_iconst hE (v := (0 : Int32)) (by decide) dL_law_2180 ?_
          refine zs_aldD hE dL_law_2181 (fun v218 => ?_)
          refine zs_dload hE 0 rfl dL_law_2182 ?_
          refine zs_dcmp hE dL_law_2184 ?_
          refine zs_if_eq hE 2210 (by decide) dL_law_2185 ?_ ?_
          · refine zs_goto hE 2380 (by decide) dL_law_2210 ?_
            refine zs_iinc hE 7 (v := (5 : Int32)) rfl (by decide) (by decide) (zcat_rf (some x4)) (lv' := [(7, .double r216), (6, .int r215), (0, va_rf x0), (1, va_rf (some x1)), (2, va_rf (some x2)), (3, va_rf (some x3)), (4, va_rf (some x4))]) rfl dL_law_2380 ?_
            refine zs_goto hE 28 (by decide) dL_law_2383 ?_
            refine zs_sub [3, 4, 5, 6, 7, 0] rfl ?_
            exact hs28 (x5 + (5 : Int32))
          · refine zs_aload hE 6 rfl dL_law_2188 ?_
            refine zs_iconst hE (v := (0 : Int32)) (by decide) dL_law_2190 ?_
            refine zs_aldD hE dL_law_2191 (fun v219 => ?_)
            refine zs_aload hE 6 rfl dL_law_2192 ?_
            refine zs_iconst hE (v := (0 : Int32)) (by decide) dL_law_2194 ?_
            refine zs_aldD hE dL_law_2195 (fun v220 => ?_)
            refine zs_dcmp hE dL_law_2196 ?_
            refine zs_if_eq hE 2208 (by decide) dL_law_2197 ?_ ?_
            · refine zs_iconst hE (v := (0 : Int32)) (by decide) dL_law_2208 ?_
              exact zs_zret hE rfl dL_law_2209
            · refine zs_dload hE 0 rfl dL_law_2200 ?_
              refine zs_dload hE 0 rfl dL_law_2202 ?_
              refine zs_dcmp hE dL_law_2204 ?_
              refine zs_if_ne hE 2210 (by decide) dL_law_2205 ?_ ?_
              · refine zs_iconst hE (v := (0 : Int32)) (by decide) dL_law_2208 ?_
                exact zs_zret hE rfl dL_law_2209
              · refine zs_goto hE 2380 (by decide) dL_law_2210 ?_
                refine zs_iinc hE 7 (v := (5 : Int32)) rfl (by decide) (by decide) (zcat_rf (some x4)) (lv' := [(7, .double r216), (6, .int r215), (0, va_rf x0), (1, va_rf (some x1)), (2, va_rf (some x2)), (3, va_rf (some x3)), (4, va_rf (some x4))]) rfl dL_law_2380 ?_
                refine zs_goto hE 28 (by decide) dL_law_2383 ?_
                refine zs_sub [3, 4, 5, 6, 7, 0] rfl ?_
                exact hs28 (x5 + (5 : Int32))
        · refine zs_goto hE 2380 (by decide) dL_law_2210 ?_
          refine zs_iinc hE 7 (v := (5 : Int32)) rfl (by decide) (by decide) (zcat_rf (some x4)) (lv' := [(7, .double r216), (6, .int r215), (0, va_rf x0), (1, va_rf (some x1)), (2, va_rf (some x2)), (3, va_rf (some x3)), (4, va_rf (some x4))]) rfl dL_law_2380 ?_
          refine zs_goto hE 28 (by decide) dL_law_2383 ?_
          refine zs_sub [3, 4, 5, 6, 7, 0] rfl ?_
          exact hs28 (x5 + (5 : Int32))
      · refine zs_iconst hE (v := (0 : Int32)) (by decide) dL_law_2171 ?_
        exact zs_zret hE rfl dL_law_2172
    · refine zs_aload_n hE 1 rfl rfl dL_law_2213 ?_
      refine zs_aload hE 4 rfl dL_law_2214 ?_
      refine zs_callSX hE (As := [va_rf (some x1), va_rf (some x4)]) (encA := encI) (met_X0_receivedShare K (some x1) (some x4)) q2782 q94 q2780 q2781 hd_X0_receivedShare (by decide) (by decide) rfl (by simp [zcat_rf, zcat_i, zcat_j, zcat_f, zcat_d]) (fun z hz => by cases hz) dL_law_2216 (fun r221 => ?_)
      show zS _ 2219 _ [.int r221] _
      refine zs_istore hE (i := 6) (by decide) (rfl) (lv' := [(0, va_rf x0), (1, va_rf (some x1)), (2, va_rf (some x2)), (3, va_rf (some x3)), (4, va_rf (some x4)), (5, .int x5)]) rfl dL_law_2219 ?_
      refine zs_aload_n hE 3 rfl rfl dL_law_2221 ?_
      refine zs_callV hE (As := []) (encA := encF) (ci := 35) rfl (fun y0 => met_X3_receivedShare K y0) q3271 q105 q3268 q3269 (zq q3270) hd_X3_receivedShare (by decide) (by decide) rfl (by simp [zcat_rf, zcat_i, zcat_j, zcat_f, zcat_d]) (fun z hz => by cases hz) dL_law_2222 (fun r222 => ?_)
      show zS _ 2225 _ [.float r222] _
      refine zs_fstore hE (i := 7) (by decide) (rfl) (lv' := [(6, .int r221), (0, va_rf x0), (1, va_rf (some x1)), (2, va_rf (some x2)), (3, va_rf (some x3)), (4, va_rf (some x4)), (5, .int x5)]) rfl dL_law_2225 ?_
      refine zs_aload_n hE 4 rfl rfl dL_law_2227 ?_
      refine zs_callV hE (As := []) (encA := encI) (ci := 35) rfl (fun y0 => met_X3_thrown K y0) q2912 q105 q2909 q2910 (zq q2911) hd_X3_thrown (by decide) (by decide) rfl (by simp [zcat_rf, zcat_i, zcat_j, zcat_f, zcat_d]) (fun z hz => by cases hz) dL_law_2228 (fun r223 => ?_)
      show zS _ 2231 _ [.int r223] _
      refine zs_iload hE 1 rfl dL_law_2231 ?_
      refine zs_icmp_eq hE 2238 (by decide) dL_law_2233 ?_ ?_
      · refine zs_iload hE 1 rfl dL_law_2238 ?_
        refine zs_if_ne hE 2276 (by decide) dL_law_2240 ?_ ?_
        · refine zs_aload hE 6 rfl dL_law_2243 ?_
          refine zs_iconst hE (v := (0 : Int32)) (by decide) dL_law_2245 ?_
          refine zs_aldD hE dL_law_2246 (fun v224 => ?_)
          refine zs_fload hE 0 rfl dL_law_2247 ?_
          refine zs_f2d hE dL_law_2249 ?_
          refine zs_dcmp hE dL_law_2250 ?_
          refine zs_if_eq hE 2276 (by decide) dL_law_2251 ?_ ?_
          · refine zs_goto hE 2380 (by decide) dL_law_2276 ?_
            refine zs_iinc hE 7 (v := (5 : Int32)) rfl (by decide) (by decide) (zcat_rf (some x4)) (lv' := [(7, .float r222), (6, .int r221), (0, va_rf x0), (1, va_rf (some x1)), (2, va_rf (some x2)), (3, va_rf (some x3)), (4, va_rf (some x4))]) rfl dL_law_2380 ?_
            refine zs_goto hE 28 (by decide) dL_law_2383 ?_
            refine zs_sub [3, 4, 5, 6, 7, 0] rfl ?_
            exact hs28 (x5 + (5 : Int32))
          · refine zs_aload hE 6 rfl dL_law_2254 ?_
            refine zs_iconst hE (v := (0 : Int32)) (by decide) dL_law_2256 ?_
            refine zs_aldD hE dL_law_2257 (fun v225 => ?_)
            refine zs_aload hE 6 rfl dL_law_2258 ?_
            refine zs_iconst hE (v := (0 : Int32)) (by decide) dL_law_2260 ?_
            refine zs_aldD hE dL_law_2261 (fun v226 => ?_)
            refine zs_dcmp hE dL_law_2262 ?_
            refine zs_if_eq hE 2274 (by decide) dL_law_2263 ?_ ?_
            · refine zs_iconst hE (v := (0 : Int32)) (by decide) dL_law_2274 ?_
              exact zs_zret hE rfl dL_law_2275
            · refine zs_fload hE 0 rfl dL_law_2266 ?_
              refine zs_fload hE 0 rfl dL_law_2268 ?_
              refine zs_fcmp hE dL_law_2270 ?_
              refine zs_if_ne hE 2276 (by decide) dL_law_2271 ?_ ?_
              · refine zs_iconst hE (v := (0 : Int32)) (by decide) dL_law_2274 ?_
                exact zs_zret hE rfl dL_law_2275
              · refine zs_goto hE 2380 (by decide) dL_law_2276 ?_
                refine zs_iinc hE 7 (v := (5 : Int32)) rfl (by decide) (by decide) (zcat_rf (some x4)) (lv' := [(7, .float r222), (6, .int r221), (0, va_rf x0), (1, va_rf (some x1)), (2, va_rf (some x2)), (3, va_rf (some x3)), (4, va_rf (some x4))]) rfl dL_law_2380 ?_
                refine zs_goto hE 28 (by decide) dL_law_2383 ?_
                refine zs_sub [3, 4, 5, 6, 7, 0] rfl ?_
                exact hs28 (x5 + (5 : Int32))
        · refine zs_goto hE 2380 (by decide) dL_law_2276 ?_
          refine zs_iinc hE 7 (v := (5 : Int32)) rfl (by decide) (by decide) (zcat_rf (some x4)) (lv' := [(7, .float r222), (6, .int r221), (0, va_rf x0), (1, va_rf (some x1)), (2, va_rf (some x2)), (3, va_rf (some x3)), (4, va_rf (some x4))]) rfl dL_law_2380 ?_
          refine zs_goto hE 28 (by decide) dL_law_2383 ?_
          refine zs_sub [3, 4, 5, 6, 7, 0] rfl ?_
          exact hs28 (x5 + (5 : Int32))
      · refine zs_iconst hE (v := (0 : Int32)) (by decide) dL_law_2236 ?_
        exact zs_zret hE rfl dL_law_2237
    · refine zs_aload_n hE 1 rfl rfl dL_law_2279 ?_
      refine zs_aload_n hE 3 rfl rfl dL_law_2280 ?_
      refine zs_callSX hE (As := [va_rf (some x1), va_rf (some x3)]) (encA := encI) (met_X0_undo K (some x1) (some x3)) q2789 q94 q2787 q2788 hd_X0_undo (by decide) (by decide) rfl (by simp [zcat_rf, zcat_i, zcat_j, zcat_f, zcat_d]) (fun z hz => by cases hz) dL_law_2281 (fun r227 => ?_)
      show zS _ 2284 _ [.int r227] _
      refine zs_istore hE (i := 6) (by decide) (rfl) (lv' := [(0, va_rf x0), (1, va_rf (some x1)), (2, va_rf (some x2)), (3, va_rf (some x3)), (4, va_rf (some x4)), (5, .int x5)]) rfl dL_law_2284 ?_
      refine zs_aload_n hE 3 rfl rfl dL_law_2286 ?_
      refine zs_callV hE (As := []) (encA := encI) (ci := 35) rfl (fun y0 => met_X3_undo K y0) q3275 q105 q3272 q3273 (zq q3274) hd_X3_undo (by decide) (by decide) rfl (by simp [zcat_rf, zcat_i, zcat_j, zcat_f, zcat_d]) (fun z hz => by cases hz) dL_law_2287 (fun r228 => ?_)
      show zS _ 2290 _ [.int r228] _
      refine zs_istore hE (i := 7) (by decide) (rfl) (lv' := [(6, .int r227), (0, va_rf x0), (1, va_rf (some x1)), (2, va_rf (some x2)), (3, va_rf (some x3)), (4, va_rf (some x4)), (5, .int x5)]) rfl dL_law_2290 ?_
      refine zs_aload_n hE 4 rfl rfl dL_law_2292 ?_
      refine zs_callV hE (As := []) (encA := encI) (ci := 35) rfl (fun y0 => met_X3_thrown K y0) q2912 q105 q2909 q2910 (zq q2911) hd_X3_thrown (by decide) (by decide) rfl (by simp [zcat_rf, zcat_i, zcat_j, zcat_f, zcat_d]) (fun z hz => by cases hz) dL_law_2293 (fun r229 => ?_)
      show zS _ 2296 _ [.int r229] _
      refine zs_iload hE 1 rfl dL_law_2296 ?_
      refine zs_icmp_eq hE 2303 (by decide) dL_law_2298 ?_ ?_
      · refine zs_iload hE 1 rfl dL_law_2303 ?_
        refine zs_if_ne hE 2320 (by decide) dL_law_2305 ?_ ?_
        · refine zs_aload_n hE 5 rfl rfl dL_law_2308 ?_
          refine zs_iconst hE (v := (0 : Int32)) (by decide) dL_law_2309 ?_
          refine zs_aldJ hE dL_law_2310 (fun v230 => ?_)
          refine zs_iload hE 0 rfl dL_law_2311 ?_
          refine zs_i2l hE dL_law_2313 ?_
          refine zs_lcmp hE dL_law_2314 ?_
          refine zs_if_eq hE 2320 (by decide) dL_law_2315 ?_ ?_
          · refine zs_goto hE 2380 (by decide) dL_law_2320 ?_
            refine zs_iinc hE 7 (v := (5 : Int32)) rfl (by decide) (by decide) (zcat_rf (some x4)) (lv' := [(7, .int r228), (6, .int r227), (0, va_rf x0), (1, va_rf (some x1)), (2, va_rf (some x2)), (3, va_rf (some x3)), (4, va_rf (some x4))]) rfl dL_law_2380 ?_
            refine zs_goto hE 28 (by decide) dL_law_2383 ?_
            refine zs_sub [3, 4, 5, 6, 7, 0] rfl ?_
            exact hs28 (x5 + (5 : Int32))
          · refine zs_iconst hE (v := (0 : Int32)) (by decide) dL_law_2318 ?_
            exact zs_zret hE rfl dL_law_2319
        · refine zs_goto hE 2380 (by decide) dL_law_2320 ?_
          refine zs_iinc hE 7 (v := (5 : Int32)) rfl (by decide) (by decide) (zcat_rf (some x4)) (lv' := [(7, .int r228), (6, .int r227), (0, va_rf x0), (1, va_rf (some x1)), (2, va_rf (some x2)), (3, va_rf (some x3)), (4, va_rf (some x4))]) rfl dL_law_2380 ?_
          refine zs_goto hE 28 (by decide) dL_law_2383 ?_
          refine zs_sub [3, 4, 5, 6, 7, 0] rfl ?_
          exact hs28 (x5 + (5 : Int32))
      · refine zs_iconst hE (v := (0 : Int32)) (by decide) dL_law_2301 ?_
        exact zs_zret hE rfl dL_law_2302
    · refine zs_aload_n hE 1 rfl rfl dL_law_2323 ?_
      refine zs_callV hE (As := []) (encA := encI) (ci := 24) rfl (fun y0 => met_X1_save K y0) q1503 q95 q1500 q1501 (zq q1502) hd_X1_save (by decide) (by decide) rfl (by simp [zcat_rf, zcat_i, zcat_j, zcat_f, zcat_d]) (fun z hz => by cases hz) dL_law_2324 (fun r231 => ?_)
      show zS _ 2327 _ [.int r231] _
      refine zs_aload_n hE 2 rfl rfl dL_law_2327 ?_
      refine zs_callV hE (As := []) (encA := encI) (ci := 35) rfl (fun y0 => met_X3_save K y0) q3279 q105 q3276 q3277 (zq q3278) hd_X3_save (by decide) (by decide) rfl (by simp [zcat_rf, zcat_i, zcat_j, zcat_f, zcat_d]) (fun z hz => by cases hz) dL_law_2328 (fun r232 => ?_)
      show zS _ 2331 _ [.int r232, .int r231] _
      refine zs_icmp_eq hE 2380 (by decide) dL_law_2331 ?_ ?_
      · refine zs_iinc hE 5 (v := (5 : Int32)) rfl (by decide) (by decide) (zcat_rf (some x4)) (lv' := [(0, va_rf x0), (1, va_rf (some x1)), (2, va_rf (some x2)), (3, va_rf (some x3)), (4, va_rf (some x4))]) rfl dL_law_2380 ?_
        refine zs_goto hE 28 (by decide) dL_law_2383 ?_
        refine zs_sub [1, 2, 3, 4, 5, 0] rfl ?_
        exact hs28 (x5 + (5 : Int32))
      · refine zs_iconst hE (v := (0 : Int32)) (by decide) dL_law_2334 ?_
        exact zs_zret hE rfl dL_law_2335
    · refine zs_aload_n hE 1 rfl rfl dL_law_2336 ?_
      refine zs_aload_n hE 3 rfl rfl dL_law_2337 ?_
      refine zs_callSX hE (As := [va_rf (some x1), va_rf (some x3)]) (encA := encI) (met_X0_restore K (some x1) (some x3)) q2811 q94 q2809 q2810 hd_X0_restore (by decide) (by decide) rfl (by simp [zcat_rf, zcat_i, zcat_j, zcat_f, zcat_d]) (fun z hz => by cases hz) dL_law_2338 (fun r233 => ?_)
      show zS _ 2341 _ [.int r233] _
      refine zs_istore hE (i := 6) (by decide) (rfl) (lv' := [(0, va_rf x0), (1, va_rf (some x1)), (2, va_rf (some x2)), (3, va_rf (some x3)), (4, va_rf (some x4)), (5, .int x5)]) rfl dL_law_2341 ?_
      refine zs_aload_n hE 3 rfl rfl dL_law_2343 ?_
      refine zs_callV hE (As := []) (encA := encI) (ci := 35) rfl (fun y0 => met_X3_restore K y0) q3283 q105 q3280 q3281 (zq q3282) hd_X3_restore (by decide) (by decide) rfl (by simp [zcat_rf, zcat_i, zcat_j, zcat_f, zcat_d]) (fun z hz => by cases hz) dL_law_2344 (fun r234 => ?_)
      show zS _ 2347 _ [.int r234] _
      refine zs_istore hE (i := 7) (by decide) (rfl) (lv' := [(6, .int r233), (0, va_rf x0), (1, va_rf (some x1)), (2, va_rf (some x2)), (3, va_rf (some x3)), (4, va_rf (some x4)), (5, .int x5)]) rfl dL_law_2347 ?_
      refine zs_aload_n hE 4 rfl rfl dL_law_2349 ?_
      refine zs_callV hE (As := []) (encA := encI) (ci := 35) rfl (fun y0 => met_X3_thrown K y0) q2912 q105 q2909 q2910 (zq q2911) hd_X3_thrown (by decide) (by decide) rfl (by simp [zcat_rf, zcat_i, zcat_j, zcat_f, zcat_d]) (fun z hz => by cases hz) dL_law_2350 (fun r235 => ?_)
      show zS _ 2353 _ [.int r235] _
      refine zs_iload hE 1 rfl dL_law_2353 ?_
      refine zs_icmp_eq hE 2360 (by decide) dL_law_2355 ?_ ?_
      · refine zs_iload hE 1 rfl dL_law_2360 ?_
        refine zs_if_ne hE 2377 (by decide) dL_law_2362 ?_ ?_
        · refine zs_aload_n hE 5 rfl rfl dL_law_2365 ?_
          refine zs_iconst hE (v := (0 : Int32)) (by decide) dL_law_2366 ?_
          refine zs_aldJ hE dL_law_2367 (fun v236 => ?_)
          refine zs_iload hE 0 rfl dL_law_2368 ?_
          refine zs_i2l hE dL_law_2370 ?_
          refine zs_lcmp hE dL_law_2371 ?_
          refine zs_if_eq hE 2377 (by decide) dL_law_2372 ?_ ?_
          · refine zs_goto hE 2380 (by decide) dL_law_2377 ?_
            refine zs_iinc hE 7 (v := (5 : Int32)) rfl (by decide) (by decide) (zcat_rf (some x4)) (lv' := [(7, .int r234), (6, .int r233), (0, va_rf x0), (1, va_rf (some x1)), (2, va_rf (some x2)), (3, va_rf (some x3)), (4, va_rf (some x4))]) rfl dL_law_2380 ?_
            refine zs_goto hE 28 (by decide) dL_law_2383 ?_
            refine zs_sub [3, 4, 5, 6, 7, 0] rfl ?_
            exact hs28 (x5 + (5 : Int32))
          · refine zs_iconst hE (v := (0 : Int32)) (by decide) dL_law_2375 ?_
            exact zs_zret hE rfl dL_law_2376
        · refine zs_goto hE 2380 (by decide) dL_law_2377 ?_
          refine zs_iinc hE 7 (v := (5 : Int32)) rfl (by decide) (by decide) (zcat_rf (some x4)) (lv' := [(7, .int r234), (6, .int r233), (0, va_rf x0), (1, va_rf (some x1)), (2, va_rf (some x2)), (3, va_rf (some x3)), (4, va_rf (some x4))]) rfl dL_law_2380 ?_
          refine zs_goto hE 28 (by decide) dL_law_2383 ?_
          refine zs_sub [3, 4, 5, 6, 7, 0] rfl ?_
          exact hs28 (x5 + (5 : Int32))
      · refine zs_iconst hE (v := (0 : Int32)) (by decide) dL_law_2358 ?_
        exact zs_zret hE rfl dL_law_2359
    · refine zs_iinc hE 5 (v := (5 : Int32)) rfl (by decide) (by decide) (zcat_rf (some x4)) (lv' := [(0, va_rf x0), (1, va_rf (some x1)), (2, va_rf (some x2)), (3, va_rf (some x3)), (4, va_rf (some x4))]) rfl dL_law_2380 ?_
      refine zs_goto hE 28 (by decide) dL_law_2383 ?_
      refine zs_sub [1, 2, 3, 4, 5, 0] rfl ?_
      exact hs28 (x5 + (5 : Int32))
theorem sm_X0_law_L28 {x : ZX Int32} {K : ZK} (hE : zE x K cL_law RX0 "law" 9 8192 104096 encI (Option.some Jvm.ClassFile.FieldType.boolean) []) (x0 : Option Nat) (x1 : Nat) (x2 : Nat) (x3 : Nat) (x4 : Nat) (v : Int32) : zS x 28 [(0, va_rf x0), (1, va_rf (some x1)), (2, va_rf (some x2)), (3, va_rf (some x3)), (4, va_rf (some x4)), (5, .int v)] [] (s_X0_law_L28 K x0 x1 x2 x3 x4 v) := by
  unfold s_X0_law_L28
  exact zs_loop (lvf := fun v => [(0, va_rf x0), (1, va_rf (some x1)), (2, va_rf (some x2)), (3, va_rf (some x3)), (4, va_rf (some x4)), (5, .int v)]) (fun self28 hs28 v => sm_X0_law_B28 hE x0 x1 x2 x3 x4 self28 hs28 v) v
theorem sm_X0_law {x : ZX Int32} {K : ZK} (hE : zE x K cL_law RX0 "law" 9 8192 104096 encI (Option.some Jvm.ClassFile.FieldType.boolean) []) (a1 : Option Nat) : zS x 0 [(0, va_rf a1)] [] (s_X0_law K a1) := by
  unfold s_X0_law
  refine zs_new hE (ci := 24) (fs := [.null, .null, .null, .null, .null, .int 0, .int 0, .null]) rfl in_X1 tyX1 tyX1_ok q163 q164 q95 (fun j hj => by rcases (show j = 0 ∨ j = 1 ∨ j = 2 ∨ j = 3 ∨ j = 4 ∨ j = 5 ∨ j = 6 ∨ j = 7 by omega) with rfl | rfl | rfl | rfl | rfl | rfl | rfl | rfl <;> rfl) dL_law_0 (fun q1 => ?_)
  refine zs_dup hE (zcat_rf _) dL_law_3 ?_
  refine zs_callI hE (As := []) (encA := encV) (met_X1_init K q1) q167 q95 q165 q166 rfl hd_X1_init (by decide) (by decide) rfl (by simp [zcat_rf, zcat_i, zcat_j, zcat_f, zcat_d]) (fun z hz => by cases hz) dL_law_4 (fun _ => ?_)
  show zS _ 7 _ [va_rf (some q1)] _
  refine zs_astore_n hE (i := 1) (q := 1) rfl (by decide) (zcat_rf a1) (lv' := [(0, va_rf a1)]) rfl dL_law_7 ?_
  refine zs_new hE (ci := 35) (fs := [.null, .null, .null, .null, .null, .int 0, .int 0, .int 0, .int 0, .int 0, .int 0, .int 0, .int 0, .int 0, .int 0, .null, .null, .null, .null, .null, .int 0, .int 0, .int 0, .int 0, .null, .int 0]) rfl in_X3 tyX3 tyX3_ok q2823 q2824 q105 (fun j hj => by rcases (show j = 0 ∨ j = 1 ∨ j = 2 ∨ j = 3 ∨ j = 4 ∨ j = 5 ∨ j = 6 ∨ j = 7 ∨ j = 8 ∨ j = 9 ∨ j = 10 ∨ j = 11 ∨ j = 12 ∨ j = 13 ∨ j = 14 ∨ j = 15 ∨ j = 16 ∨ j = 17 ∨ j = 18 ∨ j = 19 ∨ j = 20 ∨ j = 21 ∨ j = 22 ∨ j = 23 ∨ j = 24 ∨ j = 25 by omega) with rfl | rfl | rfl | rfl | rfl | rfl | rfl | rfl | rfl | rfl | rfl | rfl | rfl | rfl | rfl | rfl | rfl | rfl | rfl | rfl | rfl | rfl | rfl | rfl | rfl | rfl <;> rfl) dL_law_8 (fun q2 => ?_)
  refine zs_dup hE (zcat_rf _) dL_law_11 ?_
  refine zs_callI hE (As := []) (encA := encV) (met_X3_init K q2) q2827 q105 q2825 q2826 rfl hd_X3_init (by decide) (by decide) rfl (by simp [zcat_rf, zcat_i, zcat_j, zcat_f, zcat_d]) (fun z hz => by cases hz) dL_law_12 (fun _ => ?_)
  show zS _ 15 _ [va_rf (some q2)] _
  refine zs_astore_n hE (i := 2) (q := 2) rfl (by decide) (zcat_rf (some q1)) (lv' := [(1, va_rf (some q1)), (0, va_rf a1)]) rfl dL_law_15 ?_
  refine zs_iconst hE (v := (1 : Int32)) (by decide) dL_law_16 ?_
  refine zs_newA hE 1 (at0 := .long) q3284 rfl rfl (by decide) (fun _ _ h => h) (fun _ => rfl) (by decide) dL_law_17 (fun q3 => ?_)
  refine zs_astore_n hE (i := 3) (q := 3) rfl (by decide) (zcat_rf (some q2)) (lv' := [(2, va_rf (some q2)), (1, va_rf (some q1)), (0, va_rf a1)]) rfl dL_law_19 ?_
  refine zs_iconst hE (v := (1 : Int32)) (by decide) dL_law_20 ?_
  refine zs_newA hE 2 (at0 := .double) q3285 rfl rfl (by decide) (fun _ _ h => h) (fun _ => rfl) (by decide) dL_law_21 (fun q4 => ?_)
  refine zs_astore hE (i := 4) (by decide) (zcat_rf (some q3)) (lv' := [(3, va_rf (some q3)), (2, va_rf (some q2)), (1, va_rf (some q1)), (0, va_rf a1)]) rfl dL_law_23 ?_
  refine zs_iconst hE (v := (0 : Int32)) (by decide) dL_law_25 ?_
  refine zs_istore hE (i := 5) (by decide) (zcat_rf (some q4)) (lv' := [(4, va_rf (some q4)), (3, va_rf (some q3)), (2, va_rf (some q2)), (1, va_rf (some q1)), (0, va_rf a1)]) rfl dL_law_26 ?_
  refine zs_sub [5, 4, 3, 2, 1, 0] rfl ?_
  exact sm_X0_law_L28 hE a1 q1 q2 q3 q4 (0 : Int32)
