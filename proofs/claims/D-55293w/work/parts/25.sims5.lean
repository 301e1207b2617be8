/-! SIM-LAYER, written by gen/dec.py -/
theorem sm_X3_waitsOn_J58 {x : ZX Unit} {K : ZK} (hE : zE x K cX3_waitsOn RX3 "waitsOn" 1 2 122 encV none []) (x0 : Nat) : zS x 58 [(0, va_rf (some x0))] [] (s_X3_waitsOn_J58 K x0) := by
  unfold s_X3_waitsOn_J58
  refine zs_aload_n hE 0 rfl rfl dX3_waitsOn_58 ?_
  refine zs_getR hE (ci := 35) (k := 0) rfl (by decide) in_X3 (Or.inl q2829) (Or.inl rfl) dX3_waitsOn_59 (fun v5 => ?_)
  refine zs_iconst hE (v := (3 : Int32)) (by decide) dX3_waitsOn_62 ?_
  refine zs_ald hE dX3_waitsOn_63 (fun v6 => ?_)
  refine zs_bipush hE (v := (8 : Int32)) (by decide) dX3_waitsOn_64 ?_
  refine zs_icmp_lt hE 124 (by decide) dX3_waitsOn_66 ?_ ?_
  · exact zs_vret hE dX3_waitsOn_124
  · refine zs_aload_n hE 0 rfl rfl dX3_waitsOn_69 ?_
    refine zs_getR hE (ci := 35) (k := 0) rfl (by decide) in_X3 (Or.inl q2829) (Or.inl rfl) dX3_waitsOn_70 (fun v7 => ?_)
    refine zs_iconst hE (v := (2 : Int32)) (by decide) dX3_waitsOn_73 ?_
    refine zs_ald hE dX3_waitsOn_74 (fun v8 => ?_)
    refine zs_if_ge hE 124 (by decide) dX3_waitsOn_75 ?_ ?_
    · exact zs_vret hE dX3_waitsOn_124
    · refine zs_aload_n hE 0 rfl rfl dX3_waitsOn_78 ?_
      refine zs_getR hE (ci := 35) (k := 0) rfl (by decide) in_X3 (Or.inl q2829) (Or.inl rfl) dX3_waitsOn_79 (fun v9 => ?_)
      refine zs_iconst hE (v := (1 : Int32)) (by decide) dX3_waitsOn_82 ?_
      refine zs_ald hE dX3_waitsOn_83 (fun v10 => ?_)
      refine zs_if_le hE 124 (by decide) dX3_waitsOn_84 ?_ ?_
      · exact zs_vret hE dX3_waitsOn_124
      · refine zs_aload_n hE 0 rfl rfl dX3_waitsOn_87 ?_
        refine zs_getR hE (ci := 35) (k := 0) rfl (by decide) in_X3 (Or.inl q2829) (Or.inl rfl) dX3_waitsOn_88 (fun v11 => ?_)
        refine zs_iconst hE (v := (2 : Int32)) (by decide) dX3_waitsOn_91 ?_
        refine zs_aload_n hE 0 rfl rfl dX3_waitsOn_92 ?_
        refine zs_aload_n hE 0 rfl rfl dX3_waitsOn_93 ?_
        refine zs_getR hE (ci := 35) (k := 0) rfl (by decide) in_X3 (Or.inl q2829) (Or.inl rfl) dX3_waitsOn_94 (fun v12 => ?_)
        refine zs_iconst hE (v := (1 : Int32)) (by decide) dX3_waitsOn_97 ?_
        refine zs_ald hE dX3_waitsOn_98 (fun v13 => ?_)
        refine zs_iconst hE (v := (1 : Int32)) (by decide) dX3_waitsOn_99 ?_
        refine zs_isub hE dX3_waitsOn_100 ?_
        refine zs_iconst hE (v := (0 : Int32)) (by decide) dX3_waitsOn_101 ?_
        refine zs_callV hE (As := [.int (v13 - (1 : Int32)), .int (0 : Int32)]) (encA := encI) (ci := 35) rfl (fun y0 => met_X3_sv K y0 (v13 - (1 : Int32)) (0 : Int32)) q2945 q105 q2942 q2944 (zq qs50) hd_X3_sv (by decide) (by decide) rfl (by simp [zcat_rf, zcat_i, zcat_j, zcat_f, zcat_d]) (fun z hz => by cases hz) dX3_waitsOn_102 (fun r14 => ?_)
        show zS _ 105 _ [.int r14, .int (2 : Int32), va_rf v11] _
        refine zs_ast hE dX3_waitsOn_105 ?_
        refine zs_aload_n hE 0 rfl rfl dX3_waitsOn_106 ?_
        refine zs_getR hE (ci := 35) (k := 0) rfl (by decide) in_X3 (Or.inl q2829) (Or.inl rfl) dX3_waitsOn_107 (fun v15 => ?_)
        refine zs_iconst hE (v := (3 : Int32)) (by decide) dX3_waitsOn_110 ?_
        refine zs_iconst hE (v := (0 : Int32)) (by decide) dX3_waitsOn_111 ?_
        refine zs_ast hE dX3_waitsOn_112 ?_
        refine zs_aload_n hE 0 rfl rfl dX3_waitsOn_113 ?_
        refine zs_getR hE (ci := 35) (k := 0) rfl (by decide) in_X3 (Or.inl q2829) (Or.inl rfl) dX3_waitsOn_114 (fun v16 => ?_)
        refine zs_bipush hE (v := (16 : Int32)) (by decide) dX3_waitsOn_117 ?_
        refine zs_dup2_11 hE (rfl) (zcat_rf _) dX3_waitsOn_119 ?_
        refine zs_ald hE dX3_waitsOn_120 (fun v17 => ?_)
        refine zs_iconst hE (v := (1 : Int32)) (by decide) dX3_waitsOn_121 ?_
        refine zs_iadd hE dX3_waitsOn_122 ?_
        refine zs_ast hE dX3_waitsOn_123 ?_
        exact zs_vret hE dX3_waitsOn_124
theorem sm_X3_waitsOn {x : ZX Unit} {K : ZK} (hE : zE x K cX3_waitsOn RX3 "waitsOn" 1 2 122 encV none []) (this : Nat) : zS x 0 [(0, va_rf (some this))] [] (s_X3_waitsOn K this) := by
  unfold s_X3_waitsOn
  refine zs_aload_n hE 0 rfl rfl dX3_waitsOn_0 ?_
  refine zs_getR hE (ci := 35) (k := 0) rfl (by decide) in_X3 (Or.inl q2829) (Or.inl rfl) dX3_waitsOn_1 (fun v1 => ?_)
  refine zs_iconst hE (v := (3 : Int32)) (by decide) dX3_waitsOn_4 ?_
  refine zs_dup2_11 hE (rfl) (zcat_rf _) dX3_waitsOn_5 ?_
  refine zs_ald hE dX3_waitsOn_6 (fun v2 => ?_)
  refine zs_iconst hE (v := (1 : Int32)) (by decide) dX3_waitsOn_7 ?_
  refine zs_iadd hE dX3_waitsOn_8 ?_
  refine zs_ast hE dX3_waitsOn_9 ?_
  refine zs_aload_n hE 0 rfl rfl dX3_waitsOn_10 ?_
  refine zs_getR hE (ci := 35) (k := 0) rfl (by decide) in_X3 (Or.inl q2829) (Or.inl rfl) dX3_waitsOn_11 (fun v3 => ?_)
  refine zs_iconst hE (v := (3 : Int32)) (by decide) dX3_waitsOn_14 ?_
  refine zs_ald hE dX3_waitsOn_15 (fun v4 => ?_)
  refine zs_iconst hE (v := (5 : Int32)) (by decide) dX3_waitsOn_16 ?_
  refine zs_icmp_lt hE 58 (by decide) dX3_waitsOn_17 ?_ ?_
  · exact sm_X3_waitsOn_J58 hE this
  · refine zs_aload_n hE 0 rfl rfl dX3_waitsOn_20 ?_
    refine zs_getR hE (ci := 35) (k := 0) rfl (by decide) in_X3 (Or.inl q2829) (Or.inl rfl) dX3_waitsOn_21 (fun v18 => ?_)
    refine zs_iconst hE (v := (2 : Int32)) (by decide) dX3_waitsOn_24 ?_
    refine zs_ald hE dX3_waitsOn_25 (fun v19 => ?_)
    refine zs_if_lt hE 58 (by decide) dX3_waitsOn_26 ?_ ?_
    · exact sm_X3_waitsOn_J58 hE this
    · refine zs_aload_n hE 0 rfl rfl dX3_waitsOn_29 ?_
      refine zs_aload_n hE 0 rfl rfl dX3_waitsOn_30 ?_
      refine zs_getR hE (ci := 35) (k := 0) rfl (by decide) in_X3 (Or.inl q2829) (Or.inl rfl) dX3_waitsOn_31 (fun v20 => ?_)
      refine zs_iconst hE (v := (2 : Int32)) (by decide) dX3_waitsOn_34 ?_
      refine zs_ald hE dX3_waitsOn_35 (fun v21 => ?_)
      refine zs_iconst hE (v := (0 : Int32)) (by decide) dX3_waitsOn_36 ?_
      refine zs_callV hE (As := [.int v21, .int (0 : Int32)]) (encA := encV) (ci := 35) rfl (fun y0 => met_X3_comesToken K y0 v21 (0 : Int32)) q3025 q105 q3022 q3024 (zq qs65) hd_X3_comesToken (by decide) (by decide) rfl (by simp [zcat_rf, zcat_i, zcat_j, zcat_f, zcat_d]) (fun z hz => by cases hz) dX3_waitsOn_37 (fun _ => ?_)
      show zS _ 40 _ [] _
      refine zs_aload_n hE 0 rfl rfl dX3_waitsOn_40 ?_
      refine zs_getR hE (ci := 35) (k := 0) rfl (by decide) in_X3 (Or.inl q2829) (Or.inl rfl) dX3_waitsOn_41 (fun v22 => ?_)
      refine zs_iconst hE (v := (3 : Int32)) (by decide) dX3_waitsOn_44 ?_
      refine zs_iconst hE (v := (0 : Int32)) (by decide) dX3_waitsOn_45 ?_
      refine zs_ast hE dX3_waitsOn_46 ?_
      refine zs_aload_n hE 0 rfl rfl dX3_waitsOn_47 ?_
      refine zs_getR hE (ci := 35) (k := 0) rfl (by decide) in_X3 (Or.inl q2829) (Or.inl rfl) dX3_waitsOn_48 (fun v23 => ?_)
      refine zs_bipush hE (v := (15 : Int32)) (by decide) dX3_waitsOn_51 ?_
      refine zs_dup2_11 hE (rfl) (zcat_rf _) dX3_waitsOn_53 ?_
      refine zs_ald hE dX3_waitsOn_54 (fun v24 => ?_)
      refine zs_iconst hE (v := (1 : Int32)) (by decide) dX3_waitsOn_55 ?_
      refine zs_iadd hE dX3_waitsOn_56 ?_
      refine zs_ast hE dX3_waitsOn_57 ?_
      exact sm_X3_waitsOn_J58 hE this
theorem hd_X3_waitsOn : (yX3_waitsOn).cls ≠ "java/lang/invoke/MethodHandle" ∧ (yX3_waitsOn).cls ≠ "java/lang/invoke/VarHandle" ∧ (parseMethodDescriptor (yX3_waitsOn).desc).map (fun d => d.parameters.length) = some 0 := by decide +kernel
theorem met_X3_waitsOn (K : ZK) (this : Nat) : zMeth K yX3_waitsOn (zws yX3_waitsOn cX3_waitsOn 1 none) 2 122 [.ref this] encV (s_X3_waitsOn K this) :=
  fun l G hl hK => zmet_of hl hK (by decide +kernel) rfl rfl (by simp [zsl_nil, zsl_rf, zsl_r, zsl_i, zsl_j, zsl_f, zsl_d]) (fun x hE => by simp only [zla_nil, zla_rf, zla_r, zla_i, zla_j, zla_f, zla_d, Nat.reduceAdd]; exact sm_X3_waitsOn hE this)
theorem sm_X3_takes {x : ZX Int32} {K : ZK} (hE : zE x K cX3_takes RX3 "takes" 2 3 145 encI (Option.some Jvm.ClassFile.FieldType.boolean) []) (this : Nat) (a1 : Int32) : zS x 0 [(0, va_rf (some this)), (1, .int a1)] [] (s_X3_takes K this a1) := by
  unfold s_X3_takes
  refine zs_aload_n hE 0 rfl rfl dX3_takes_0 ?_
  refine zs_iload_n hE 1 rfl rfl dX3_takes_1 ?_
  refine zs_iconst hE (v := (1 : Int32)) (by decide) dX3_takes_2 ?_
  refine zs_callV hE (As := [.int a1, .int (1 : Int32)]) (encA := encI) (ci := 35) rfl (fun y0 => met_X3_sv K y0 a1 (1 : Int32)) q2945 q105 q2942 q2944 (zq qs50) hd_X3_sv (by decide) (by decide) rfl (by simp [zcat_rf, zcat_i, zcat_j, zcat_f, zcat_d]) (fun z hz => by cases hz) dX3_takes_3 (fun r1 => ?_)
  show zS _ 6 _ [.int r1] _
  refine zs_if_le hE 30 (by decide) dX3_takes_6 ?_ ?_
  · refine zs_iconst hE (v := (0 : Int32)) (by decide) dX3_takes_30 ?_
    exact zs_zret hE rfl dX3_takes_31
  · refine zs_aload_n hE 0 rfl rfl dX3_takes_9 ?_
    refine zs_iload_n hE 1 rfl rfl dX3_takes_10 ?_
    refine zs_iconst hE (v := (0 : Int32)) (by decide) dX3_takes_11 ?_
    refine zs_iconst hE (v := (2 : Int32)) (by decide) dX3_takes_12 ?_
    refine zs_callV hE (As := [.int a1, .int (0 : Int32), .int (2 : Int32)]) (encA := encI) (ci := 35) rfl (fun y0 => met_X3_qv K y0 a1 (0 : Int32) (2 : Int32)) q3001 q105 q2998 q3000 (zq qs62) hd_X3_qv (by decide) (by decide) rfl (by simp [zcat_rf, zcat_i, zcat_j, zcat_f, zcat_d]) (fun z hz => by cases hz) dX3_takes_13 (fun r2 => ?_)
    show zS _ 16 _ [.int r2] _
    refine zs_aload_n hE 0 rfl rfl dX3_takes_16 ?_
    refine zs_getR hE (ci := 35) (k := 0) rfl (by decide) in_X3 (Or.inl q2829) (Or.inl rfl) dX3_takes_17 (fun v3 => ?_)
    refine zs_bipush hE (v := (20 : Int32)) (by decide) dX3_takes_20 ?_
    refine zs_ald hE dX3_takes_22 (fun v4 => ?_)
    refine zs_icmp_lt hE 30 (by decide) dX3_takes_23 ?_ ?_
    · refine zs_iconst hE (v := (0 : Int32)) (by decide) dX3_takes_30 ?_
      exact zs_zret hE rfl dX3_takes_31
    · refine zs_iconst hE (v := (1 : Int32)) (by decide) dX3_takes_26 ?_
      refine zs_goto hE 31 (by decide) dX3_takes_27 ?_
      exact zs_zret hE rfl dX3_takes_31
theorem hd_X3_takes : (yX3_takes).cls ≠ "java/lang/invoke/MethodHandle" ∧ (yX3_takes).cls ≠ "java/lang/invoke/VarHandle" ∧ (parseMethodDescriptor (yX3_takes).desc).map (fun d => d.parameters.length) = some 1 := by decide +kernel
theorem met_X3_takes (K : ZK) (this : Nat) (a1 : Int32) : zMeth K yX3_takes (zws yX3_takes cX3_takes 2 (Option.some Jvm.ClassFile.FieldType.boolean)) 3 145 [.ref this, .int a1] encI (s_X3_takes K this a1) :=
  fun l G hl hK => zmet_of hl hK (by decide +kernel) rfl rfl (by simp [zsl_nil, zsl_rf, zsl_r, zsl_i, zsl_j, zsl_f, zsl_d]) (fun x hE => by simp only [zla_nil, zla_rf, zla_r, zla_i, zla_j, zla_f, zla_d, Nat.reduceAdd]; exact sm_X3_takes hE this a1)
theorem sm_X3_most {x : ZX Int32} {K : ZK} (hE : zE x K cX3_most RX3 "most" 2 1 100 encI (Option.some Jvm.ClassFile.FieldType.int) []) (a1 : Int32) (a2 : Int32) : zS x 0 [(0, .int a1), (1, .int a2)] [] (s_X3_most K a1 a2) := by
  unfold s_X3_most
  refine zs_iload_n hE 0 rfl rfl dX3_most_0 ?_
  refine zs_iload_n hE 1 rfl rfl dX3_most_1 ?_
  refine zs_icmp_le hE 9 (by decide) dX3_most_2 ?_ ?_
  · refine zs_iload_n hE 1 rfl rfl dX3_most_9 ?_
    exact zs_iret hE dX3_most_10
  · refine zs_iload_n hE 0 rfl rfl dX3_most_5 ?_
    refine zs_goto hE 10 (by decide) dX3_most_6 ?_
    exact zs_iret hE dX3_most_10
theorem hd_X3_most : (yX3_most).cls ≠ "java/lang/invoke/MethodHandle" ∧ (yX3_most).cls ≠ "java/lang/invoke/VarHandle" ∧ (parseMethodDescriptor (yX3_most).desc).map (fun d => d.parameters.length) = some 2 := by decide +kernel
theorem met_X3_most (K : ZK) (a1 : Int32) (a2 : Int32) : zMeth K yX3_most (zws yX3_most cX3_most 2 (Option.some Jvm.ClassFile.FieldType.int)) 1 100 [.int a1, .int a2] encI (s_X3_most K a1 a2) :=
  fun l G hl hK => zmet_of hl hK (by decide +kernel) rfl rfl (by simp [zsl_nil, zsl_rf, zsl_r, zsl_i, zsl_j, zsl_f, zsl_d]) (fun x hE => by simp only [zla_nil, zla_rf, zla_r, zla_i, zla_j, zla_f, zla_d, Nat.reduceAdd]; exact sm_X3_most hE a1 a2)
theorem sm_X3_puts_B212 {x : ZX Unit} {K : ZK} (hE : zE x K cX3_puts RX3 "puts" 5 3 145 encV none []) (x0 : Nat) (x1 : Int32) (x3 : Int32) (self199 : Int32 → ZP Unit) (self212 : Int32 → ZP Unit) (hs199 : ∀ v : Int32, zS x 199 [(0, va_rf (some x0)), (1, .int x1), (3, .int v)] [] (self199 v)) (hs212 : ∀ v : Int32, zS x 212 [(0, va_rf (some x0)), (1, .int x1), (3, .int x3), (4, .int v)] [] (self212 v)) (x4 : Int32) : zS x 212 [(0, va_rf (some x0)), (1, .int x1), (3, .int x3), (4, .int x4)] [] (s_X3_puts_B212 K x0 x1 x3 self199 self212 x4) := by
  unfold s_X3_puts_B212
  refine zs_iload hE 3 rfl dX3_puts_212 ?_
  refine zs_iconst hE (v := (5 : Int32)) (by decide) dX3_puts_214 ?_
  refine zs_icmp_ge hE 247 (by decide) dX3_puts_215 ?_ ?_
  · refine zs_iinc hE 2 (v := (1 : Int32)) rfl (by decide) (by decide) (trivial) (lv' := [(0, va_rf (some x0)), (1, .int x1), (4, .int x4)]) rfl dX3_puts_247 ?_
    refine zs_goto hE 199 (by decide) dX3_puts_250 ?_
    refine zs_sub [1, 2, 0] rfl ?_
    exact hs199 (x3 + (1 : Int32))
  · refine zs_aload_n hE 0 rfl rfl dX3_puts_218 ?_
    refine zs_iload_n hE 1 rfl rfl dX3_puts_219 ?_
    refine zs_iconst hE (v := (4 : Int32)) (by decide) dX3_puts_220 ?_
    refine zs_iconst hE (v := (5 : Int32)) (by decide) dX3_puts_221 ?_
    refine zs_iload_n hE 2 rfl rfl dX3_puts_222 ?_
    refine zs_imul hE dX3_puts_223 ?_
    refine zs_iadd hE dX3_puts_224 ?_
    refine zs_iload hE 3 rfl dX3_puts_225 ?_
    refine zs_iadd hE dX3_puts_227 ?_
    refine zs_aload_n hE 0 rfl rfl dX3_puts_228 ?_
    refine zs_iload_n hE 1 rfl rfl dX3_puts_229 ?_
    refine zs_iload_n hE 2 rfl rfl dX3_puts_230 ?_
    refine zs_iconst hE (v := (1 : Int32)) (by decide) dX3_puts_231 ?_
    refine zs_iadd hE dX3_puts_232 ?_
    refine zs_iload hE 3 rfl dX3_puts_233 ?_
    refine zs_callV hE (As := [.int x1, .int (x3 + (1 : Int32)), .int x4]) (encA := encI) (ci := 35) rfl (fun y0 => met_X3_qv K y0 x1 (x3 + (1 : Int32)) x4) q3001 q105 q2998 q3000 (zq qs62) hd_X3_qv (by decide) (by decide) rfl (by simp [zcat_rf, zcat_i, zcat_j, zcat_f, zcat_d]) (fun z hz => by cases hz) dX3_puts_235 (fun r32 => ?_)
    show zS _ 238 _ [.int r32, .int (((4 : Int32) + ((5 : Int32) * x3)) + x4), .int x1, va_rf (some x0)] _
    refine zs_callV hE (As := [.int x1, .int (((4 : Int32) + ((5 : Int32) * x3)) + x4), .int r32]) (encA := encV) (ci := 35) rfl (fun y0 => met_X3_ls K y0 x1 (((4 : Int32) + ((5 : Int32) * x3)) + x4) r32) q2961 q105 q2958 q2960 (zq qs54) hd_X3_ls (by decide) (by decide) rfl (by simp [zcat_rf, zcat_i, zcat_j, zcat_f, zcat_d]) (fun z hz => by cases hz) dX3_puts_238 (fun _ => ?_)
    show zS _ 241 _ [] _
    refine zs_iinc hE 3 (v := (1 : Int32)) rfl (by decide) (by decide) (rfl) (lv' := [(0, va_rf (some x0)), (1, .int x1), (3, .int x3)]) rfl dX3_puts_241 ?_
    refine zs_goto hE 212 (by decide) dX3_puts_244 ?_
    refine zs_sub [1, 2, 3, 0] rfl ?_
    exact hs212 (x4 + (1 : Int32))
theorem sm_X3_puts_L212 {x : ZX Unit} {K : ZK} (hE : zE x K cX3_puts RX3 "puts" 5 3 145 encV none []) (x0 : Nat) (x1 : Int32) (x3 : Int32) (self199 : Int32 → ZP Unit) (hs199 : ∀ v : Int32, zS x 199 [(0, va_rf (some x0)), (1, .int x1), (3, .int v)] [] (self199 v)) (v : Int32) : zS x 212 [(0, va_rf (some x0)), (1, .int x1), (3, .int x3), (4, .int v)] [] (s_X3_puts_L212 K x0 x1 x3 self199 v) := by
  unfold s_X3_puts_L212
  exact zs_loop (lvf := fun v => [(0, va_rf (some x0)), (1, .int x1), (3, .int x3), (4, .int v)]) (fun self212 hs212 v => sm_X3_puts_B212 hE x0 x1 x3 self199 self212 hs199 hs212 v) v
theorem sm_X3_puts_B199 {x : ZX Unit} {K : ZK} (hE : zE x K cX3_puts RX3 "puts" 5 3 145 encV none []) (x0 : Nat) (x1 : Int32) (self199 : Int32 → ZP Unit) (hs199 : ∀ v : Int32, zS x 199 [(0, va_rf (some x0)), (1, .int x1), (3, .int v)] [] (self199 v)) (x3 : Int32) : zS x 199 [(0, va_rf (some x0)), (1, .int x1), (3, .int x3)] [] (s_X3_puts_B199 K x0 x1 self199 x3) := by
  unfold s_X3_puts_B199
  refine zs_iload_n hE 2 rfl rfl dX3_puts_199 ?_
  refine zs_aload_n hE 0 rfl rfl dX3_puts_200 ?_
  refine zs_iload_n hE 1 rfl rfl dX3_puts_201 ?_
  refine zs_iconst hE (v := (1 : Int32)) (by decide) dX3_puts_202 ?_
  refine zs_callV hE (As := [.int x1, .int (1 : Int32)]) (encA := encI) (ci := 35) rfl (fun y0 => met_X3_sv K y0 x1 (1 : Int32)) q2945 q105 q2942 q2944 (zq qs50) hd_X3_sv (by decide) (by decide) rfl (by simp [zcat_rf, zcat_i, zcat_j, zcat_f, zcat_d]) (fun z hz => by cases hz) dX3_puts_203 (fun r31 => ?_)
  show zS _ 206 _ [.int r31, .int x3] _
  refine zs_icmp_ge hE 253 (by decide) dX3_puts_206 ?_ ?_
  · exact zs_vret hE dX3_puts_253
  · refine zs_iconst hE (v := (0 : Int32)) (by decide) dX3_puts_209 ?_
    refine zs_istore hE (i := 4) (by decide) (rfl) (lv' := [(0, va_rf (some x0)), (1, .int x1), (3, .int x3)]) rfl dX3_puts_210 ?_
    refine zs_sub [1, 2, 3, 0] rfl ?_
    exact sm_X3_puts_L212 hE x0 x1 x3 self199 hs199 (0 : Int32)
theorem sm_X3_puts_L199 {x : ZX Unit} {K : ZK} (hE : zE x K cX3_puts RX3 "puts" 5 3 145 encV none []) (x0 : Nat) (x1 : Int32) (v : Int32) : zS x 199 [(0, va_rf (some x0)), (1, .int x1), (3, .int v)] [] (s_X3_puts_L199 K x0 x1 v) := by
  unfold s_X3_puts_L199
  exact zs_loop (lvf := fun v => [(0, va_rf (some x0)), (1, .int x1), (3, .int v)]) (fun self199 hs199 v => sm_X3_puts_B199 hE x0 x1 self199 hs199 v) v
theorem sm_X3_puts {x : ZX Unit} {K : ZK} (hE : zE x K cX3_puts RX3 "puts" 5 3 145 encV none []) (this : Nat) (a1 : Int32) : zS x 0 [(0, va_rf (some this)), (1, .int a1)] [] (s_X3_puts K this a1) := by
  unfold s_X3_puts
  refine zs_aload_n hE 0 rfl rfl dX3_puts_0 ?_
  refine zs_getR hE (ci := 35) (k := 0) rfl (by decide) in_X3 (Or.inl q2829) (Or.inl rfl) dX3_puts_1 (fun v1 => ?_)
  refine zs_iconst hE (v := (0 : Int32)) (by decide) dX3_puts_4 ?_
  refine zs_ald hE dX3_puts_5 (fun v2 => ?_)
  refine zs_aload_n hE 0 rfl rfl dX3_puts_6 ?_
  refine zs_iload_n hE 1 rfl rfl dX3_puts_7 ?_
  refine zs_iconst hE (v := (0 : Int32)) (by decide) dX3_puts_8 ?_
  refine zs_iconst hE (v := (4 : Int32)) (by decide) dX3_puts_9 ?_
  refine zs_callV hE (As := [.int a1, .int (0 : Int32), .int (4 : Int32)]) (encA := encI) (ci := 35) rfl (fun y0 => met_X3_qv K y0 a1 (0 : Int32) (4 : Int32)) q3001 q105 q2998 q3000 (zq qs62) hd_X3_qv (by decide) (by decide) rfl (by simp [zcat_rf, zcat_i, zcat_j, zcat_f, zcat_d]) (fun z hz => by cases hz) dX3_puts_10 (fun r3 => ?_)
  show zS _ 13 _ [.int r3, .int v2] _
  refine zs_isub hE dX3_puts_13 ?_
  refine zs_istore_n hE (i := 2) (q := 2) rfl (by decide) (rfl) (lv' := [(0, va_rf (some this)), (1, .int a1)]) rfl dX3_puts_14 ?_
  refine zs_aload_n hE 1 rfl rfl dX3_puts_15 ?_
  refine zs_getR hE (ci := 35) (k := 0) rfl (by decide) in_X3 (Or.inl q2829) (Or.inl rfl) dX3_puts_16 (fun v4 => ?_)
  refine zs_bipush hE (v := (18 : Int32)) (by decide) dX3_puts_19 ?_
  refine zs_iconst hE (v := (2 : Int32)) (by decide) dX3_puts_21 ?_
  refine zs_ast hE dX3_puts_22 ?_
  refine zs_aload_n hE 1 rfl rfl dX3_puts_23 ?_
  refine zs_getR hE (ci := 35) (k := 0) rfl (by decide) in_X3 (Or.inl q2829) (Or.inl rfl) dX3_puts_24 (fun v5 => ?_)
  refine zs_bipush hE (v := (22 : Int32)) (by decide) dX3_puts_27 ?_
  refine zs_aload_n hE 1 rfl rfl dX3_puts_29 ?_
  refine zs_iload_n hE 2 rfl rfl dX3_puts_30 ?_
  refine zs_iconst hE (v := (0 : Int32)) (by decide) dX3_puts_31 ?_
  refine zs_iconst hE (v := (0 : Int32)) (by decide) dX3_puts_32 ?_
  refine zs_callV hE (As := [.int a1, .int (0 : Int32), .int (0 : Int32)]) (encA := encI) (ci := 35) rfl (fun y0 => met_X3_qv K y0 a1 (0 : Int32) (0 : Int32)) q3001 q105 q2998 q3000 (zq qs62) hd_X3_qv (by decide) (by decide) rfl (by simp [zcat_rf, zcat_i, zcat_j, zcat_f, zcat_d]) (fun z hz => by cases hz) dX3_puts_33 (fun r6 => ?_)
  show zS _ 36 _ [.int r6, .int (22 : Int32), va_rf v5] _
  refine zs_ast hE dX3_puts_36 ?_
  refine zs_aload_n hE 1 rfl rfl dX3_puts_37 ?_
  refine zs_getR hE (ci := 35) (k := 0) rfl (by decide) in_X3 (Or.inl q2829) (Or.inl rfl) dX3_puts_38 (fun v7 => ?_)
  refine zs_bipush hE (v := (23 : Int32)) (by decide) dX3_puts_41 ?_
  refine zs_aload_n hE 1 rfl rfl dX3_puts_43 ?_
  refine zs_iload_n hE 2 rfl rfl dX3_puts_44 ?_
  refine zs_iconst hE (v := (0 : Int32)) (by decide) dX3_puts_45 ?_
  refine zs_callV hE (As := [.int a1, .int (0 : Int32)]) (encA := encI) (ci := 35) rfl (fun y0 => met_X3_sv K y0 a1 (0 : Int32)) q2945 q105 q2942 q2944 (zq qs50) hd_X3_sv (by decide) (by decide) rfl (by simp [zcat_rf, zcat_i, zcat_j, zcat_f, zcat_d]) (fun z hz => by cases hz) dX3_puts_46 (fun r8 => ?_)
  show zS _ 49 _ [.int r8, .int (23 : Int32), va_rf v7] _
  refine zs_ast hE dX3_puts_49 ?_
  refine zs_aload_n hE 1 rfl rfl dX3_puts_50 ?_
  refine zs_getR hE (ci := 35) (k := 0) rfl (by decide) in_X3 (Or.inl q2829) (Or.inl rfl) dX3_puts_51 (fun v9 => ?_)
  refine zs_bipush hE (v := (24 : Int32)) (by decide) dX3_puts_54 ?_
  refine zs_aload_n hE 1 rfl rfl dX3_puts_56 ?_
  refine zs_iload_n hE 2 rfl rfl dX3_puts_57 ?_
  refine zs_iconst hE (v := (0 : Int32)) (by decide) dX3_puts_58 ?_
  refine zs_iconst hE (v := (1 : Int32)) (by decide) dX3_puts_59 ?_
  refine zs_callV hE (As := [.int a1, .int (0 : Int32), .int (1 : Int32)]) (encA := encI) (ci := 35) rfl (fun y0 => met_X3_qv K y0 a1 (0 : Int32) (1 : Int32)) q3001 q105 q2998 q3000 (zq qs62) hd_X3_qv (by decide) (by decide) rfl (by simp [zcat_rf, zcat_i, zcat_j, zcat_f, zcat_d]) (fun z hz => by cases hz) dX3_puts_60 (fun r10 => ?_)
  show zS _ 63 _ [.int r10, .int (24 : Int32), va_rf v9] _
  refine zs_ast hE dX3_puts_63 ?_
  refine zs_aload_n hE 1 rfl rfl dX3_puts_64 ?_
  refine zs_getR hE (ci := 35) (k := 0) rfl (by decide) in_X3 (Or.inl q2829) (Or.inl rfl) dX3_puts_65 (fun v11 => ?_)
  refine zs_bipush hE (v := (25 : Int32)) (by decide) dX3_puts_68 ?_
  refine zs_aload_n hE 1 rfl rfl dX3_puts_70 ?_
  refine zs_iload_n hE 2 rfl rfl dX3_puts_71 ?_
  refine zs_iconst hE (v := (0 : Int32)) (by decide) dX3_puts_72 ?_
  refine zs_iconst hE (v := (2 : Int32)) (by decide) dX3_puts_73 ?_
  refine zs_callV hE (As := [.int a1, .int (0 : Int32), .int (2 : Int32)]) (encA := encI) (ci := 35) rfl (fun y0 => met_X3_qv K y0 a1 (0 : Int32) (2 : Int32)) q3001 q105 q2998 q3000 (zq qs62) hd_X3_qv (by decide) (by decide) rfl (by simp [zcat_rf, zcat_i, zcat_j, zcat_f, zcat_d]) (fun z hz => by cases hz) dX3_puts_74 (fun r12 => ?_)
  show zS _ 77 _ [.int r12, .int (25 : Int32), va_rf v11] _
  refine zs_ast hE dX3_puts_77 ?_
  refine zs_aload_n hE 1 rfl rfl dX3_puts_78 ?_
  refine zs_getR hE (ci := 35) (k := 0) rfl (by decide) in_X3 (Or.inl q2829) (Or.inl rfl) dX3_puts_79 (fun v13 => ?_)
  refine zs_bipush hE (v := (26 : Int32)) (by decide) dX3_puts_82 ?_
  refine zs_aload_n hE 1 rfl rfl dX3_puts_84 ?_
  refine zs_iload_n hE 2 rfl rfl dX3_puts_85 ?_
  refine zs_iconst hE (v := (0 : Int32)) (by decide) dX3_puts_86 ?_
  refine zs_iconst hE (v := (3 : Int32)) (by decide) dX3_puts_87 ?_
  refine zs_callV hE (As := [.int a1, .int (0 : Int32), .int (3 : Int32)]) (encA := encI) (ci := 35) rfl (fun y0 => met_X3_qv K y0 a1 (0 : Int32) (3 : Int32)) q3001 q105 q2998 q3000 (zq qs62) hd_X3_qv (by decide) (by decide) rfl (by simp [zcat_rf, zcat_i, zcat_j, zcat_f, zcat_d]) (fun z hz => by cases hz) dX3_puts_88 (fun r14 => ?_)
  show zS _ 91 _ [.int r14, .int (26 : Int32), va_rf v13] _
  refine zs_ast hE dX3_puts_91 ?_
  refine zs_aload_n hE 1 rfl rfl dX3_puts_92 ?_
  refine zs_getR hE (ci := 35) (k := 0) rfl (by decide) in_X3 (Or.inl q2829) (Or.inl rfl) dX3_puts_93 (fun v15 => ?_)
  refine zs_bipush hE (v := (27 : Int32)) (by decide) dX3_puts_96 ?_
  refine zs_aload_n hE 1 rfl rfl dX3_puts_98 ?_
  refine zs_getR hE (ci := 35) (k := 0) rfl (by decide) in_X3 (Or.inl q2829) (Or.inl rfl) dX3_puts_99 (fun v16 => ?_)
  refine zs_bipush hE (v := (20 : Int32)) (by decide) dX3_puts_102 ?_
  refine zs_ald hE dX3_puts_104 (fun v17 => ?_)
  refine zs_ast hE dX3_puts_105 ?_
  refine zs_aload_n hE 1 rfl rfl dX3_puts_106 ?_
  refine zs_getR hE (ci := 35) (k := 0) rfl (by decide) in_X3 (Or.inl q2829) (Or.inl rfl) dX3_puts_107 (fun v18 => ?_)
  refine zs_bipush hE (v := (28 : Int32)) (by decide) dX3_puts_110 ?_
  refine zs_iconst hE (v := (0 : Int32)) (by decide) dX3_puts_112 ?_
  refine zs_ast hE dX3_puts_113 ?_
  refine zs_aload_n hE 1 rfl rfl dX3_puts_114 ?_
  refine zs_getR hE (ci := 35) (k := 0) rfl (by decide) in_X3 (Or.inl q2829) (Or.inl rfl) dX3_puts_115 (fun v19 => ?_)
  refine zs_bipush hE (v := (29 : Int32)) (by decide) dX3_puts_118 ?_
  refine zs_iconst hE (v := (0 : Int32)) (by decide) dX3_puts_120 ?_
  refine zs_ast hE dX3_puts_121 ?_
  refine zs_aload_n hE 1 rfl rfl dX3_puts_122 ?_
  refine zs_getR hE (ci := 35) (k := 0) rfl (by decide) in_X3 (Or.inl q2829) (Or.inl rfl) dX3_puts_123 (fun v20 => ?_)
  refine zs_bipush hE (v := (30 : Int32)) (by decide) dX3_puts_126 ?_
  refine zs_iconst hE (v := (0 : Int32)) (by decide) dX3_puts_128 ?_
  refine zs_ast hE dX3_puts_129 ?_
  refine zs_aload_n hE 1 rfl rfl dX3_puts_130 ?_
  refine zs_getR hE (ci := 35) (k := 0) rfl (by decide) in_X3 (Or.inl q2829) (Or.inl rfl) dX3_puts_131 (fun v21 => ?_)
  refine zs_iconst hE (v := (5 : Int32)) (by decide) dX3_puts_134 ?_
  refine zs_dup2_11 hE (rfl) (zcat_rf _) dX3_puts_135 ?_
  refine zs_ald hE dX3_puts_136 (fun v22 => ?_)
  refine zs_iconst hE (v := (1 : Int32)) (by decide) dX3_puts_137 ?_
  refine zs_iadd hE dX3_puts_138 ?_
  refine zs_ast hE dX3_puts_139 ?_
  refine zs_aload_n hE 1 rfl rfl dX3_puts_140 ?_
  refine zs_getR hE (ci := 35) (k := 0) rfl (by decide) in_X3 (Or.inl q2829) (Or.inl rfl) dX3_puts_141 (fun v23 => ?_)
  refine zs_bipush hE (v := (13 : Int32)) (by decide) dX3_puts_144 ?_
  refine zs_dup2_11 hE (rfl) (zcat_rf _) dX3_puts_146 ?_
  refine zs_ald hE dX3_puts_147 (fun v24 => ?_)
  refine zs_iload_n hE 0 rfl rfl dX3_puts_148 ?_
  refine zs_iadd hE dX3_puts_149 ?_
  refine zs_ast hE dX3_puts_150 ?_
  refine zs_aload_n hE 1 rfl rfl dX3_puts_151 ?_
  refine zs_getR hE (ci := 35) (k := 0) rfl (by decide) in_X3 (Or.inl q2829) (Or.inl rfl) dX3_puts_152 (fun v25 => ?_)
  refine zs_bipush hE (v := (14 : Int32)) (by decide) dX3_puts_155 ?_
  refine zs_aload_n hE 1 rfl rfl dX3_puts_157 ?_
  refine zs_getR hE (ci := 35) (k := 0) rfl (by decide) in_X3 (Or.inl q2829) (Or.inl rfl) dX3_puts_158 (fun v26 => ?_)
  refine zs_bipush hE (v := (14 : Int32)) (by decide) dX3_puts_161 ?_
  refine zs_ald hE dX3_puts_163 (fun v27 => ?_)
  refine zs_iload_n hE 0 rfl rfl dX3_puts_164 ?_
  refine zs_callS hE (As := [.int v27, .int (v2 - r3)]) (encA := encI) (met_X3_most K v27 (v2 - r3)) q3075 q105 q3073 q3074 hd_X3_most (by decide) (by decide) rfl (by simp [zcat_rf, zcat_i, zcat_j, zcat_f, zcat_d]) (fun z hz => by cases hz) dX3_puts_165 (fun r28 => ?_)
  show zS _ 168 _ [.int r28, .int (14 : Int32), va_rf v25] _
  refine zs_ast hE dX3_puts_168 ?_
  refine zs_aload_n hE 1 rfl rfl dX3_puts_169 ?_
  refine zs_iload_n hE 2 rfl rfl dX3_puts_170 ?_
  refine zs_iconst hE (v := (2 : Int32)) (by decide) dX3_puts_171 ?_
  refine zs_aload_n hE 1 rfl rfl dX3_puts_172 ?_
  refine zs_iload_n hE 2 rfl rfl dX3_puts_173 ?_
  refine zs_iconst hE (v := (2 : Int32)) (by decide) dX3_puts_174 ?_
  refine zs_callV hE (As := [.int a1, .int (2 : Int32)]) (encA := encI) (ci := 35) rfl (fun y0 => met_X3_sv K y0 a1 (2 : Int32)) q2945 q105 q2942 q2944 (zq qs50) hd_X3_sv (by decide) (by decide) rfl (by simp [zcat_rf, zcat_i, zcat_j, zcat_f, zcat_d]) (fun z hz => by cases hz) dX3_puts_175 (fun r29 => ?_)
  show zS _ 178 _ [.int r29, .int (2 : Int32), .int a1, va_rf (some this)] _
  refine zs_iconst hE (v := (1 : Int32)) (by decide) dX3_puts_178 ?_
  refine zs_iadd hE dX3_puts_179 ?_
  refine zs_callV hE (As := [.int a1, .int (2 : Int32), .int (r29 + (1 : Int32))]) (encA := encV) (ci := 35) rfl (fun y0 => met_X3_ls K y0 a1 (2 : Int32) (r29 + (1 : Int32))) q2961 q105 q2958 q2960 (zq qs54) hd_X3_ls (by decide) (by decide) rfl (by simp [zcat_rf, zcat_i, zcat_j, zcat_f, zcat_d]) (fun z hz => by cases hz) dX3_puts_180 (fun _ => ?_)
  show zS _ 183 _ [] _
  refine zs_aload_n hE 1 rfl rfl dX3_puts_183 ?_
  refine zs_iload_n hE 2 rfl rfl dX3_puts_184 ?_
  refine zs_iconst hE (v := (1 : Int32)) (by decide) dX3_puts_185 ?_
  refine zs_aload_n hE 1 rfl rfl dX3_puts_186 ?_
  refine zs_iload_n hE 2 rfl rfl dX3_puts_187 ?_
  refine zs_iconst hE (v := (1 : Int32)) (by decide) dX3_puts_188 ?_
  refine zs_callV hE (As := [.int a1, .int (1 : Int32)]) (encA := encI) (ci := 35) rfl (fun y0 => met_X3_sv K y0 a1 (1 : Int32)) q2945 q105 q2942 q2944 (zq qs50) hd_X3_sv (by decide) (by decide) rfl (by simp [zcat_rf, zcat_i, zcat_j, zcat_f, zcat_d]) (fun z hz => by cases hz) dX3_puts_189 (fun r30 => ?_)
  show zS _ 192 _ [.int r30, .int (1 : Int32), .int a1, va_rf (some this)] _
  refine zs_iconst hE (v := (1 : Int32)) (by decide) dX3_puts_192 ?_
  refine zs_isub hE dX3_puts_193 ?_
  refine zs_callV hE (As := [.int a1, .int (1 : Int32), .int (r30 - (1 : Int32))]) (encA := encV) (ci := 35) rfl (fun y0 => met_X3_ls K y0 a1 (1 : Int32) (r30 - (1 : Int32))) q2961 q105 q2958 q2960 (zq qs54) hd_X3_ls (by decide) (by decide) rfl (by simp [zcat_rf, zcat_i, zcat_j, zcat_f, zcat_d]) (fun z hz => by cases hz) dX3_puts_194 (fun _ => ?_)
  show zS _ 197 _ [] _
  refine zs_iconst hE (v := (0 : Int32)) (by decide) dX3_puts_197 ?_
  refine zs_istore_n hE (i := 3) (q := 3) rfl (by decide) (rfl) (lv' := [(2, .int (v2 - r3)), (0, va_rf (some this)), (1, .int a1)]) rfl dX3_puts_198 ?_
  refine zs_sub [2, 3, 0] rfl ?_
  exact sm_X3_puts_L199 hE this a1 (0 : Int32)
theorem hd_X3_puts : (yX3_puts).cls ≠ "java/lang/invoke/MethodHandle" ∧ (yX3_puts).cls ≠ "java/lang/invoke/VarHandle" ∧ (parseMethodDescriptor (yX3_puts).desc).map (fun d => d.parameters.length) = some 1 := by decide +kernel
theorem met_X3_puts (K : ZK) (this : Nat) (a1 : Int32) : zMeth K yX3_puts (zws yX3_puts cX3_puts 5 none) 3 145 [.ref this, .int a1] encV (s_X3_puts K this a1) :=
  fun l G hl hK => zmet_of hl hK (by decide +kernel) rfl rfl (by simp [zsl_nil, zsl_rf, zsl_r, zsl_i, zsl_j, zsl_f, zsl_d]) (fun x hE => by simp only [zla_nil, zla_rf, zla_r, zla_i, zla_j, zla_f, zla_d, Nat.reduceAdd]; exact sm_X3_puts hE this a1)
theorem sm_X3_tokenComes {x : ZX Unit} {K : ZK} (hE : zE x K cX3_tokenComes RX3 "tokenComes" 2 4 169 encV none []) (this : Nat) (a1 : Int32) : zS x 0 [(0, va_rf (some this)), (1, .int a1)] [] (s_X3_tokenComes K this a1) := by
  unfold s_X3_tokenComes
  refine zs_aload_n hE 0 rfl rfl dX3_tokenComes_0 ?_
  refine zs_iload_n hE 1 rfl rfl dX3_tokenComes_1 ?_
  refine zs_callV hE (As := [.int a1]) (encA := encI) (ci := 35) rfl (fun y0 => met_X3_takes K y0 a1) q3068 q105 q3065 q3067 (zq qs73) hd_X3_takes (by decide) (by decide) rfl (by simp [zcat_rf, zcat_i, zcat_j, zcat_f, zcat_d]) (fun z hz => by cases hz) dX3_tokenComes_2 (fun r1 => ?_)
  show zS _ 5 _ [.int r1] _
  refine zs_if_eq hE 14 (by decide) dX3_tokenComes_5 ?_ ?_
  · refine zs_aload_n hE 0 rfl rfl dX3_tokenComes_14 ?_
    refine zs_getR hE (ci := 35) (k := 0) rfl (by decide) in_X3 (Or.inl q2829) (Or.inl rfl) dX3_tokenComes_15 (fun v2 => ?_)
    refine zs_bipush hE (v := (20 : Int32)) (by decide) dX3_tokenComes_18 ?_
    refine zs_ald hE dX3_tokenComes_20 (fun v3 => ?_)
    refine zs_if_eq hE 40 (by decide) dX3_tokenComes_21 ?_ ?_
    · exact zs_vret hE dX3_tokenComes_40
    · refine zs_aload_n hE 0 rfl rfl dX3_tokenComes_24 ?_
      refine zs_getR hE (ci := 35) (k := 0) rfl (by decide) in_X3 (Or.inl q2829) (Or.inl rfl) dX3_tokenComes_25 (fun v4 => ?_)
      refine zs_bipush hE (v := (19 : Int32)) (by decide) dX3_tokenComes_28 ?_
      refine zs_ald hE dX3_tokenComes_30 (fun v5 => ?_)
      refine zs_aload_n hE 0 rfl rfl dX3_tokenComes_31 ?_
      refine zs_getR hE (ci := 35) (k := 0) rfl (by decide) in_X3 (Or.inl q2829) (Or.inl rfl) dX3_tokenComes_32 (fun v6 => ?_)
      refine zs_iconst hE (v := (2 : Int32)) (by decide) dX3_tokenComes_35 ?_
      refine zs_ald hE dX3_tokenComes_36 (fun v7 => ?_)
      refine zs_icmp_eq hE 41 (by decide) dX3_tokenComes_37 ?_ ?_
      · refine zs_aload_n hE 0 rfl rfl dX3_tokenComes_41 ?_
        refine zs_getR hE (ci := 35) (k := 0) rfl (by decide) in_X3 (Or.inl q2829) (Or.inl rfl) dX3_tokenComes_42 (fun v8 => ?_)
        refine zs_bipush hE (v := (21 : Int32)) (by decide) dX3_tokenComes_45 ?_
        refine zs_dup2_11 hE (rfl) (zcat_rf _) dX3_tokenComes_47 ?_
        refine zs_ald hE dX3_tokenComes_48 (fun v9 => ?_)
        refine zs_iconst hE (v := (1 : Int32)) (by decide) dX3_tokenComes_49 ?_
        refine zs_iadd hE dX3_tokenComes_50 ?_
        refine zs_ast hE dX3_tokenComes_51 ?_
        refine zs_aload_n hE 0 rfl rfl dX3_tokenComes_52 ?_
        refine zs_getR hE (ci := 35) (k := 0) rfl (by decide) in_X3 (Or.inl q2829) (Or.inl rfl) dX3_tokenComes_53 (fun v10 => ?_)
        refine zs_bipush hE (v := (21 : Int32)) (by decide) dX3_tokenComes_56 ?_
        refine zs_ald hE dX3_tokenComes_58 (fun v11 => ?_)
        refine zs_iconst hE (v := (3 : Int32)) (by decide) dX3_tokenComes_59 ?_
        refine zs_icmp_ne hE 71 (by decide) dX3_tokenComes_60 ?_ ?_
        · refine zs_aload_n hE 0 rfl rfl dX3_tokenComes_63 ?_
          refine zs_getR hE (ci := 35) (k := 0) rfl (by decide) in_X3 (Or.inl q2829) (Or.inl rfl) dX3_tokenComes_64 (fun v12 => ?_)
          refine zs_bipush hE (v := (20 : Int32)) (by decide) dX3_tokenComes_67 ?_
          refine zs_iconst hE (v := (0 : Int32)) (by decide) dX3_tokenComes_69 ?_
          refine zs_ast hE dX3_tokenComes_70 ?_
          exact zs_vret hE dX3_tokenComes_71
        · exact zs_vret hE dX3_tokenComes_71
      · exact zs_vret hE dX3_tokenComes_40
  · refine zs_aload_n hE 0 rfl rfl dX3_tokenComes_8 ?_
    refine zs_iload_n hE 1 rfl rfl dX3_tokenComes_9 ?_
    refine zs_callV hE (As := [.int a1]) (encA := encV) (ci := 35) rfl (fun y0 => met_X3_puts K y0 a1) q3072 q105 q3069 q3071 (zq qs74) hd_X3_puts (by decide) (by decide) rfl (by simp [zcat_rf, zcat_i, zcat_j, zcat_f, zcat_d]) (fun z hz => by cases hz) dX3_tokenComes_10 (fun _ => ?_)
    show zS _ 13 _ [] _
    exact zs_vret hE dX3_tokenComes_13
theorem hd_X3_tokenComes : (yX3_tokenComes).cls ≠ "java/lang/invoke/MethodHandle" ∧ (yX3_tokenComes).cls ≠ "java/lang/invoke/VarHandle" ∧ (parseMethodDescriptor (yX3_tokenComes).desc).map (fun d => d.parameters.length) = some 1 := by decide +kernel
theorem met_X3_tokenComes (K : ZK) (this : Nat) (a1 : Int32) : zMeth K yX3_tokenComes (zws yX3_tokenComes cX3_tokenComes 2 none) 4 169 [.ref this, .int a1] encV (s_X3_tokenComes K this a1) :=
  fun l G hl hK => zmet_of hl hK (by decide +kernel) rfl rfl (by simp [zsl_nil, zsl_rf, zsl_r, zsl_i, zsl_j, zsl_f, zsl_d]) (fun x hE => by simp only [zla_nil, zla_rf, zla_r, zla_i, zla_j, zla_f, zla_d, Nat.reduceAdd]; exact sm_X3_tokenComes hE this a1)
theorem sm_X3_frameComes_J199 {x : ZX Int32} {K : ZK} (hE : zE x K cX3_frameComes RX3 "frameComes" 3 3 145 encI (Option.some Jvm.ClassFile.FieldType.int) []) (x0 : Nat) (x1 : Int32) (x2 : Int32) : zS x 199 [(0, va_rf (some x0)), (1, .int x1), (2, .int x2)] [] (s_X3_frameComes_J199 K x0 x1 x2) := by
  unfold s_X3_frameComes_J199
  refine zs_aload_n hE 0 rfl rfl dX3_frameComes_199 ?_
  refine zs_iload_n hE 1 rfl rfl dX3_frameComes_200 ?_
  refine zs_iconst hE (v := (1 : Int32)) (by decide) dX3_frameComes_201 ?_
  refine zs_callV hE (As := [.int x1, .int (1 : Int32)]) (encA := encI) (ci := 35) rfl (fun y0 => met_X3_sv K y0 x1 (1 : Int32)) q2945 q105 q2942 q2944 (zq qs50) hd_X3_sv (by decide) (by decide) rfl (by simp [zcat_rf, zcat_i, zcat_j, zcat_f, zcat_d]) (fun z hz => by cases hz) dX3_frameComes_202 (fun r39 => ?_)
  show zS _ 205 _ [.int r39] _
  refine zs_if_le hE 232 (by decide) dX3_frameComes_205 ?_ ?_
  · refine zs_iload_n hE 2 rfl rfl dX3_frameComes_232 ?_
    exact zs_iret hE dX3_frameComes_233
  · refine zs_aload_n hE 0 rfl rfl dX3_frameComes_208 ?_
    refine zs_getR hE (ci := 35) (k := 0) rfl (by decide) in_X3 (Or.inl q2829) (Or.inl rfl) dX3_frameComes_209 (fun v40 => ?_)
    refine zs_bipush hE (v := (28 : Int32)) (by decide) dX3_frameComes_212 ?_
    refine zs_aload_n hE 0 rfl rfl dX3_frameComes_214 ?_
    refine zs_getR hE (ci := 35) (k := 0) rfl (by decide) in_X3 (Or.inl q2829) (Or.inl rfl) dX3_frameComes_215 (fun v41 => ?_)
    refine zs_bipush hE (v := (28 : Int32)) (by decide) dX3_frameComes_218 ?_
    refine zs_ald hE dX3_frameComes_220 (fun v42 => ?_)
    refine zs_aload_n hE 0 rfl rfl dX3_frameComes_221 ?_
    refine zs_iload_n hE 1 rfl rfl dX3_frameComes_222 ?_
    refine zs_iconst hE (v := (0 : Int32)) (by decide) dX3_frameComes_223 ?_
    refine zs_iconst hE (v := (2 : Int32)) (by decide) dX3_frameComes_224 ?_
    refine zs_callV hE (As := [.int x1, .int (0 : Int32), .int (2 : Int32)]) (encA := encI) (ci := 35) rfl (fun y0 => met_X3_qv K y0 x1 (0 : Int32) (2 : Int32)) q3001 q105 q2998 q3000 (zq qs62) hd_X3_qv (by decide) (by decide) rfl (by simp [zcat_rf, zcat_i, zcat_j, zcat_f, zcat_d]) (fun z hz => by cases hz) dX3_frameComes_225 (fun r43 => ?_)
    show zS _ 228 _ [.int r43, .int v42, .int (28 : Int32), va_rf v40] _
    refine zs_callS hE (As := [.int v42, .int r43]) (encA := encI) (met_X3_most K v42 r43) q3075 q105 q3073 q3074 hd_X3_most (by decide) (by decide) rfl (by simp [zcat_rf, zcat_i, zcat_j, zcat_f, zcat_d]) (fun z hz => by cases hz) dX3_frameComes_228 (fun r44 => ?_)
    show zS _ 231 _ [.int r44, .int (28 : Int32), va_rf v40] _
    refine zs_ast hE dX3_frameComes_231 ?_
    refine zs_iload_n hE 2 rfl rfl dX3_frameComes_232 ?_
    exact zs_iret hE dX3_frameComes_233
theorem sm_X3_frameComes_J81 {x : ZX Int32} {K : ZK} (hE : zE x K cX3_frameComes RX3 "frameComes" 3 3 145 encI (Option.some Jvm.ClassFile.FieldType.int) []) (x0 : Nat) (x1 : Int32) (x2 : Int32) : zS x 81 [(0, va_rf (some x0)), (1, .int x1), (2, .int x2)] [] (s_X3_frameComes_J81 K x0 x1 x2) := by
  unfold s_X3_frameComes_J81
  refine zs_aload_n hE 0 rfl rfl dX3_frameComes_81 ?_
  refine zs_getR hE (ci := 35) (k := 0) rfl (by decide) in_X3 (Or.inl q2829) (Or.inl rfl) dX3_frameComes_82 (fun v15 => ?_)
  refine zs_bipush hE (v := (19 : Int32)) (by decide) dX3_frameComes_85 ?_
  refine zs_ald hE dX3_frameComes_87 (fun v16 => ?_)
  refine zs_aload_n hE 0 rfl rfl dX3_frameComes_88 ?_
  refine zs_getR hE (ci := 35) (k := 0) rfl (by decide) in_X3 (Or.inl q2829) (Or.inl rfl) dX3_frameComes_89 (fun v17 => ?_)
  refine zs_bipush hE (v := (23 : Int32)) (by decide) dX3_frameComes_92 ?_
  refine zs_ald hE dX3_frameComes_94 (fun v18 => ?_)
  refine zs_icmp_ne hE 139 (by decide) dX3_frameComes_95 ?_ ?_
  · refine zs_aload_n hE 0 rfl rfl dX3_frameComes_98 ?_
    refine zs_getR hE (ci := 35) (k := 0) rfl (by decide) in_X3 (Or.inl q2829) (Or.inl rfl) dX3_frameComes_99 (fun v19 => ?_)
    refine zs_bipush hE (v := (7 : Int32)) (by decide) dX3_frameComes_102 ?_
    refine zs_dup2_11 hE (rfl) (zcat_rf _) dX3_frameComes_104 ?_
    refine zs_ald hE dX3_frameComes_105 (fun v20 => ?_)
    refine zs_iconst hE (v := (1 : Int32)) (by decide) dX3_frameComes_106 ?_
    refine zs_iadd hE dX3_frameComes_107 ?_
    refine zs_ast hE dX3_frameComes_108 ?_
    refine zs_aload_n hE 0 rfl rfl dX3_frameComes_109 ?_
    refine zs_aload_n hE 0 rfl rfl dX3_frameComes_110 ?_
    refine zs_getR hE (ci := 35) (k := 0) rfl (by decide) in_X3 (Or.inl q2829) (Or.inl rfl) dX3_frameComes_111 (fun v21 => ?_)
    refine zs_bipush hE (v := (19 : Int32)) (by decide) dX3_frameComes_114 ?_
    refine zs_ald hE dX3_frameComes_116 (fun v22 => ?_)
    refine zs_aload_n hE 0 rfl rfl dX3_frameComes_117 ?_
    refine zs_getR hE (ci := 35) (k := 0) rfl (by decide) in_X3 (Or.inl q2829) (Or.inl rfl) dX3_frameComes_118 (fun v23 => ?_)
    refine zs_bipush hE (v := (28 : Int32)) (by decide) dX3_frameComes_121 ?_
    refine zs_ald hE dX3_frameComes_123 (fun v24 => ?_)
    refine zs_aload_n hE 0 rfl rfl dX3_frameComes_124 ?_
    refine zs_getR hE (ci := 35) (k := 0) rfl (by decide) in_X3 (Or.inl q2829) (Or.inl rfl) dX3_frameComes_125 (fun v25 => ?_)
    refine zs_bipush hE (v := (27 : Int32)) (by decide) dX3_frameComes_128 ?_
    refine zs_ald hE dX3_frameComes_130 (fun v26 => ?_)
    refine zs_callS hE (As := [.int v24, .int v26]) (encA := encI) (met_X3_most K v24 v26) q3075 q105 q3073 q3074 hd_X3_most (by decide) (by decide) rfl (by simp [zcat_rf, zcat_i, zcat_j, zcat_f, zcat_d]) (fun z hz => by cases hz) dX3_frameComes_131 (fun r27 => ?_)
    show zS _ 134 _ [.int r27, .int v22, va_rf (some x0)] _
    refine zs_callV hE (As := [.int v22, .int r27]) (encA := encV) (ci := 35) rfl (fun y0 => met_X3_comesToken K y0 v22 r27) q3025 q105 q3022 q3024 (zq qs65) hd_X3_comesToken (by decide) (by decide) rfl (by simp [zcat_rf, zcat_i, zcat_j, zcat_f, zcat_d]) (fun z hz => by cases hz) dX3_frameComes_134 (fun _ => ?_)
    show zS _ 137 _ [] _
    refine zs_iload_n hE 2 rfl rfl dX3_frameComes_137 ?_
    exact zs_iret hE dX3_frameComes_138
  · refine zs_aload_n hE 0 rfl rfl dX3_frameComes_139 ?_
    refine zs_getR hE (ci := 35) (k := 0) rfl (by decide) in_X3 (Or.inl q2829) (Or.inl rfl) dX3_frameComes_140 (fun v28 => ?_)
    refine zs_bipush hE (v := (19 : Int32)) (by decide) dX3_frameComes_143 ?_
    refine zs_ald hE dX3_frameComes_145 (fun v29 => ?_)
    refine zs_aload_n hE 0 rfl rfl dX3_frameComes_146 ?_
    refine zs_getR hE (ci := 35) (k := 0) rfl (by decide) in_X3 (Or.inl q2829) (Or.inl rfl) dX3_frameComes_147 (fun v30 => ?_)
    refine zs_iconst hE (v := (2 : Int32)) (by decide) dX3_frameComes_150 ?_
    refine zs_ald hE dX3_frameComes_151 (fun v31 => ?_)
    refine zs_icmp_ne hE 199 (by decide) dX3_frameComes_152 ?_ ?_
    · refine zs_aload_n hE 0 rfl rfl dX3_frameComes_155 ?_
      refine zs_getR hE (ci := 35) (k := 0) rfl (by decide) in_X3 (Or.inl q2829) (Or.inl rfl) dX3_frameComes_156 (fun v32 => ?_)
      refine zs_bipush hE (v := (29 : Int32)) (by decide) dX3_frameComes_159 ?_
      refine zs_ald hE dX3_frameComes_161 (fun v33 => ?_)
      refine zs_iconst hE (v := (1 : Int32)) (by decide) dX3_frameComes_162 ?_
      refine zs_icmp_ne hE 191 (by decide) dX3_frameComes_163 ?_ ?_
      · refine zs_aload_n hE 0 rfl rfl dX3_frameComes_166 ?_
        refine zs_getR hE (ci := 35) (k := 0) rfl (by decide) in_X3 (Or.inl q2829) (Or.inl rfl) dX3_frameComes_167 (fun v34 => ?_)
        refine zs_bipush hE (v := (8 : Int32)) (by decide) dX3_frameComes_170 ?_
        refine zs_dup2_11 hE (rfl) (zcat_rf _) dX3_frameComes_172 ?_
        refine zs_ald hE dX3_frameComes_173 (fun v35 => ?_)
        refine zs_iconst hE (v := (1 : Int32)) (by decide) dX3_frameComes_174 ?_
        refine zs_iadd hE dX3_frameComes_175 ?_
        refine zs_ast hE dX3_frameComes_176 ?_
        refine zs_aload_n hE 0 rfl rfl dX3_frameComes_177 ?_
        refine zs_aload_n hE 0 rfl rfl dX3_frameComes_178 ?_
        refine zs_getR hE (ci := 35) (k := 0) rfl (by decide) in_X3 (Or.inl q2829) (Or.inl rfl) dX3_frameComes_179 (fun v36 => ?_)
        refine zs_bipush hE (v := (19 : Int32)) (by decide) dX3_frameComes_182 ?_
        refine zs_ald hE dX3_frameComes_184 (fun v37 => ?_)
        refine zs_iconst hE (v := (0 : Int32)) (by decide) dX3_frameComes_185 ?_
        refine zs_callV hE (As := [.int v37, .int (0 : Int32)]) (encA := encV) (ci := 35) rfl (fun y0 => met_X3_comesToken K y0 v37 (0 : Int32)) q3025 q105 q3022 q3024 (zq qs65) hd_X3_comesToken (by decide) (by decide) rfl (by simp [zcat_rf, zcat_i, zcat_j, zcat_f, zcat_d]) (fun z hz => by cases hz) dX3_frameComes_186 (fun _ => ?_)
        show zS _ 189 _ [] _
        refine zs_iload_n hE 2 rfl rfl dX3_frameComes_189 ?_
        exact zs_iret hE dX3_frameComes_190
      · refine zs_aload_n hE 0 rfl rfl dX3_frameComes_191 ?_
        refine zs_getR hE (ci := 35) (k := 0) rfl (by decide) in_X3 (Or.inl q2829) (Or.inl rfl) dX3_frameComes_192 (fun v38 => ?_)
        refine zs_bipush hE (v := (29 : Int32)) (by decide) dX3_frameComes_195 ?_
        refine zs_iconst hE (v := (1 : Int32)) (by decide) dX3_frameComes_197 ?_
        refine zs_ast hE dX3_frameComes_198 ?_
        exact sm_X3_frameComes_J199 hE x0 x1 x2
    · exact sm_X3_frameComes_J199 hE x0 x1 x2
theorem sm_X3_frameComes {x : ZX Int32} {K : ZK} (hE : zE x K cX3_frameComes RX3 "frameComes" 3 3 145 encI (Option.some Jvm.ClassFile.FieldType.int) []) (this : Nat) (a1 : Int32) : zS x 0 [(0, va_rf (some this)), (1, .int a1)] [] (s_X3_frameComes K this a1) := by
  unfold s_X3_frameComes
  refine zs_iconst hE (v := (0 : Int32)) (by decide) dX3_frameComes_0 ?_
  refine zs_istore_n hE (i := 2) (q := 2) rfl (by decide) (rfl) (lv' := [(0, va_rf (some this)), (1, .int a1)]) rfl dX3_frameComes_1 ?_
  refine zs_aload_n hE 1 rfl rfl dX3_frameComes_2 ?_
  refine zs_getR hE (ci := 35) (k := 0) rfl (by decide) in_X3 (Or.inl q2829) (Or.inl rfl) dX3_frameComes_3 (fun v1 => ?_)
  refine zs_bipush hE (v := (19 : Int32)) (by decide) dX3_frameComes_6 ?_
  refine zs_ald hE dX3_frameComes_8 (fun v2 => ?_)
  refine zs_aload_n hE 1 rfl rfl dX3_frameComes_9 ?_
  refine zs_getR hE (ci := 35) (k := 0) rfl (by decide) in_X3 (Or.inl q2829) (Or.inl rfl) dX3_frameComes_10 (fun v3 => ?_)
  refine zs_bipush hE (v := (24 : Int32)) (by decide) dX3_frameComes_13 ?_
  refine zs_ald hE dX3_frameComes_15 (fun v4 => ?_)
  refine zs_icmp_ne hE 81 (by decide) dX3_frameComes_16 ?_ ?_
  · refine zs_aload_n hE 1 rfl rfl dX3_frameComes_19 ?_
    refine zs_getR hE (ci := 35) (k := 0) rfl (by decide) in_X3 (Or.inl q2829) (Or.inl rfl) dX3_frameComes_20 (fun v5 => ?_)
    refine zs_bipush hE (v := (30 : Int32)) (by decide) dX3_frameComes_23 ?_
    refine zs_ald hE dX3_frameComes_25 (fun v6 => ?_)
    refine zs_if_ne hE 81 (by decide) dX3_frameComes_26 ?_ ?_
    · refine zs_aload_n hE 1 rfl rfl dX3_frameComes_29 ?_
      refine zs_getR hE (ci := 35) (k := 0) rfl (by decide) in_X3 (Or.inl q2829) (Or.inl rfl) dX3_frameComes_30 (fun v7 => ?_)
      refine zs_bipush hE (v := (30 : Int32)) (by decide) dX3_frameComes_33 ?_
      refine zs_iconst hE (v := (1 : Int32)) (by decide) dX3_frameComes_35 ?_
      refine zs_ast hE dX3_frameComes_36 ?_
      refine zs_aload_n hE 1 rfl rfl dX3_frameComes_37 ?_
      refine zs_getR hE (ci := 35) (k := 0) rfl (by decide) in_X3 (Or.inl q2829) (Or.inl rfl) dX3_frameComes_38 (fun v8 => ?_)
      refine zs_bipush hE (v := (6 : Int32)) (by decide) dX3_frameComes_41 ?_
      refine zs_dup2_11 hE (rfl) (zcat_rf _) dX3_frameComes_43 ?_
      refine zs_ald hE dX3_frameComes_44 (fun v9 => ?_)
      refine zs_iconst hE (v := (1 : Int32)) (by decide) dX3_frameComes_45 ?_
      refine zs_iadd hE dX3_frameComes_46 ?_
      refine zs_ast hE dX3_frameComes_47 ?_
      refine zs_aload_n hE 1 rfl rfl dX3_frameComes_48 ?_
      refine zs_getR hE (ci := 35) (k := 0) rfl (by decide) in_X3 (Or.inl q2829) (Or.inl rfl) dX3_frameComes_49 (fun v10 => ?_)
      refine zs_bipush hE (v := (12 : Int32)) (by decide) dX3_frameComes_52 ?_
      refine zs_dup2_11 hE (rfl) (zcat_rf _) dX3_frameComes_54 ?_
      refine zs_ald hE dX3_frameComes_55 (fun v11 => ?_)
      refine zs_aload_n hE 1 rfl rfl dX3_frameComes_56 ?_
      refine zs_getR hE (ci := 35) (k := 0) rfl (by decide) in_X3 (Or.inl q2829) (Or.inl rfl) dX3_frameComes_57 (fun v12 => ?_)
      refine zs_bipush hE (v := (26 : Int32)) (by decide) dX3_frameComes_60 ?_
      refine zs_ald hE dX3_frameComes_62 (fun v13 => ?_)
      refine zs_iadd hE dX3_frameComes_63 ?_
      refine zs_ast hE dX3_frameComes_64 ?_
      refine zs_aload_n hE 1 rfl rfl dX3_frameComes_65 ?_
      refine zs_iload_n hE 2 rfl rfl dX3_frameComes_66 ?_
      refine zs_iconst hE (v := (3 : Int32)) (by decide) dX3_frameComes_67 ?_
      refine zs_aload_n hE 1 rfl rfl dX3_frameComes_68 ?_
      refine zs_iload_n hE 2 rfl rfl dX3_frameComes_69 ?_
      refine zs_iconst hE (v := (3 : Int32)) (by decide) dX3_frameComes_70 ?_
      refine zs_callV hE (As := [.int a1, .int (3 : Int32)]) (encA := encI) (ci := 35) rfl (fun y0 => met_X3_sv K y0 a1 (3 : Int32)) q2945 q105 q2942 q2944 (zq qs50) hd_X3_sv (by decide) (by decide) rfl (by simp [zcat_rf, zcat_i, zcat_j, zcat_f, zcat_d]) (fun z hz => by cases hz) dX3_frameComes_71 (fun r14 => ?_)
      show zS _ 74 _ [.int r14, .int (3 : Int32), .int a1, va_rf (some this)] _
      refine zs_iconst hE (v := (1 : Int32)) (by decide) dX3_frameComes_74 ?_
      refine zs_iadd hE dX3_frameComes_75 ?_
      refine zs_callV hE (As := [.int a1, .int (3 : Int32), .int (r14 + (1 : Int32))]) (encA := encV) (ci := 35) rfl (fun y0 => met_X3_ls K y0 a1 (3 : Int32) (r14 + (1 : Int32))) q2961 q105 q2958 q2960 (zq qs54) hd_X3_ls (by decide) (by decide) rfl (by simp [zcat_rf, zcat_i, zcat_j, zcat_f, zcat_d]) (fun z hz => by cases hz) dX3_frameComes_76 (fun _ => ?_)
      show zS _ 79 _ [] _
      refine zs_iconst hE (v := (1 : Int32)) (by decide) dX3_frameComes_79 ?_
      refine zs_istore_n hE (i := 2) (q := 2) rfl (by decide) (rfl) (lv' := [(0, va_rf (some this)), (1, .int a1)]) rfl dX3_frameComes_80 ?_
      refine zs_sub [1, 2, 0] rfl ?_
      exact sm_X3_frameComes_J81 hE this a1 (1 : Int32)
    · refine zs_sub [1, 2, 0] rfl ?_
      exact sm_X3_frameComes_J81 hE this a1 (0 : Int32)
  · refine zs_sub [1, 2, 0] rfl ?_
    exact sm_X3_frameComes_J81 hE this a1 (0 : Int32)
theorem hd_X3_frameComes : (yX3_frameComes).cls ≠ "java/lang/invoke/MethodHandle" ∧ (yX3_frameComes).cls ≠ "java/lang/invoke/VarHandle" ∧ (parseMethodDescriptor (yX3_frameComes).desc).map (fun d => d.parameters.length) = some 1 := by decide +kernel
theorem met_X3_frameComes (K : ZK) (this : Nat) (a1 : Int32) : zMeth K yX3_frameComes (zws yX3_frameComes cX3_frameComes 3 (Option.some Jvm.ClassFile.FieldType.int)) 3 145 [.ref this, .int a1] encI (s_X3_frameComes K this a1) :=
  fun l G hl hK => zmet_of hl hK (by decide +kernel) rfl rfl (by simp [zsl_nil, zsl_rf, zsl_r, zsl_i, zsl_j, zsl_f, zsl_d]) (fun x hE => by simp only [zla_nil, zla_rf, zla_r, zla_i, zla_j, zla_f, zla_d, Nat.reduceAdd]; exact sm_X3_frameComes hE this a1)
theorem sm_X3_goesTick_J74 {x : ZX Int32} {K : ZK} (hE : zE x K cX3_goesTick RX3 "goesTick" 3 5 190 encI (Option.some Jvm.ClassFile.FieldType.int) []) (x0 : Nat) (x1 : Int32) : zS x 74 [(0, va_rf (some x0)), (1, .int x1)] [] (s_X3_goesTick_J74 K x0 x1) := by
  unfold s_X3_goesTick_J74
  refine zs_aload_n hE 0 rfl rfl dX3_goesTick_74 ?_
  refine zs_getR hE (ci := 35) (k := 0) rfl (by decide) in_X3 (Or.inl q2829) (Or.inl rfl) dX3_goesTick_75 (fun v3 => ?_)
  refine zs_iconst hE (v := (0 : Int32)) (by decide) dX3_goesTick_78 ?_
  refine zs_dup2_11 hE (rfl) (zcat_rf _) dX3_goesTick_79 ?_
  refine zs_ald hE dX3_goesTick_80 (fun v4 => ?_)
  refine zs_iconst hE (v := (1 : Int32)) (by decide) dX3_goesTick_81 ?_
  refine zs_iadd hE dX3_goesTick_82 ?_
  refine zs_ast hE dX3_goesTick_83 ?_
  refine zs_iload_n hE 1 rfl rfl dX3_goesTick_84 ?_
  exact zs_iret hE dX3_goesTick_85
theorem sm_X3_goesTick {x : ZX Int32} {K : ZK} (hE : zE x K cX3_goesTick RX3 "goesTick" 3 5 190 encI (Option.some Jvm.ClassFile.FieldType.int) []) (this : Nat) : zS x 0 [(0, va_rf (some this))] [] (s_X3_goesTick K this) := by
  unfold s_X3_goesTick
  refine zs_iconst hE (v := (0 : Int32)) (by decide) dX3_goesTick_0 ?_
  refine zs_istore_n hE (i := 1) (q := 1) rfl (by decide) (zcat_rf (some this)) (lv' := [(0, va_rf (some this))]) rfl dX3_goesTick_1 ?_
  refine zs_aload_n hE 1 rfl rfl dX3_goesTick_2 ?_
  refine zs_getR hE (ci := 35) (k := 0) rfl (by decide) in_X3 (Or.inl q2829) (Or.inl rfl) dX3_goesTick_3 (fun v1 => ?_)
  refine zs_bipush hE (v := (18 : Int32)) (by decide) dX3_goesTick_6 ?_
  refine zs_ald hE dX3_goesTick_8 (fun v2 => ?_)
  refine zs_if_ne hE 19 (by decide) dX3_goesTick_9 ?_ ?_
  · refine zs_aload_n hE 1 rfl rfl dX3_goesTick_12 ?_
    refine zs_callV hE (As := []) (encA := encV) (ci := 35) rfl (fun y0 => met_X3_waitsOn K y0) q3060 q105 q3057 q3059 (zq qs71) hd_X3_waitsOn (by decide) (by decide) rfl (by simp [zcat_rf, zcat_i, zcat_j, zcat_f, zcat_d]) (fun z hz => by cases hz) dX3_goesTick_13 (fun _ => ?_)
    show zS _ 16 _ [] _
    refine zs_goto hE 74 (by decide) dX3_goesTick_16 ?_
    refine zs_sub [1, 0] rfl ?_
    exact sm_X3_goesTick_J74 hE this (0 : Int32)
  · refine zs_aload_n hE 1 rfl rfl dX3_goesTick_19 ?_
    refine zs_getR hE (ci := 35) (k := 0) rfl (by decide) in_X3 (Or.inl q2829) (Or.inl rfl) dX3_goesTick_20 (fun v5 => ?_)
    refine zs_bipush hE (v := (19 : Int32)) (by decide) dX3_goesTick_23 ?_
    refine zs_aload_n hE 1 rfl rfl dX3_goesTick_25 ?_
    refine zs_aload_n hE 1 rfl rfl dX3_goesTick_26 ?_
    refine zs_getR hE (ci := 35) (k := 0) rfl (by decide) in_X3 (Or.inl q2829) (Or.inl rfl) dX3_goesTick_27 (fun v6 => ?_)
    refine zs_bipush hE (v := (19 : Int32)) (by decide) dX3_goesTick_30 ?_
    refine zs_ald hE dX3_goesTick_32 (fun v7 => ?_)
    refine zs_callV hE (As := [.int v7]) (encA := encI) (ci := 35) rfl (fun y0 => met_X3_nextOf K y0 v7) q2985 q105 q2982 q2984 (zq qs59) hd_X3_nextOf (by decide) (by decide) rfl (by simp [zcat_rf, zcat_i, zcat_j, zcat_f, zcat_d]) (fun z hz => by cases hz) dX3_goesTick_33 (fun r8 => ?_)
    show zS _ 36 _ [.int r8, .int (19 : Int32), va_rf v5] _
    refine zs_ast hE dX3_goesTick_36 ?_
    refine zs_aload_n hE 1 rfl rfl dX3_goesTick_37 ?_
    refine zs_aload_n hE 1 rfl rfl dX3_goesTick_38 ?_
    refine zs_getR hE (ci := 35) (k := 0) rfl (by decide) in_X3 (Or.inl q2829) (Or.inl rfl) dX3_goesTick_39 (fun v9 => ?_)
    refine zs_bipush hE (v := (19 : Int32)) (by decide) dX3_goesTick_42 ?_
    refine zs_ald hE dX3_goesTick_44 (fun v10 => ?_)
    refine zs_callV hE (As := [.int v10]) (encA := encI) (ci := 35) rfl (fun y0 => met_X3_placeOf K y0 v10) q2941 q105 q2938 q2940 (zq qs49) hd_X3_placeOf (by decide) (by decide) rfl (by simp [zcat_rf, zcat_i, zcat_j, zcat_f, zcat_d]) (fun z hz => by cases hz) dX3_goesTick_45 (fun r11 => ?_)
    show zS _ 48 _ [.int r11] _
    refine zs_istore_n hE (i := 2) (q := 2) rfl (by decide) (rfl) (lv' := [(1, .int (0 : Int32)), (0, va_rf (some this))]) rfl dX3_goesTick_48 ?_
    refine zs_aload_n hE 2 rfl rfl dX3_goesTick_49 ?_
    refine zs_getR hE (ci := 35) (k := 0) rfl (by decide) in_X3 (Or.inl q2829) (Or.inl rfl) dX3_goesTick_50 (fun v12 => ?_)
    refine zs_bipush hE (v := (18 : Int32)) (by decide) dX3_goesTick_53 ?_
    refine zs_ald hE dX3_goesTick_55 (fun v13 => ?_)
    refine zs_iconst hE (v := (1 : Int32)) (by decide) dX3_goesTick_56 ?_
    refine zs_icmp_ne hE 68 (by decide) dX3_goesTick_57 ?_ ?_
    · refine zs_aload_n hE 2 rfl rfl dX3_goesTick_60 ?_
      refine zs_iload_n hE 0 rfl rfl dX3_goesTick_61 ?_
      refine zs_callV hE (As := [.int r11]) (encA := encV) (ci := 35) rfl (fun y0 => met_X3_tokenComes K y0 r11) q3064 q105 q3061 q3063 (zq qs72) hd_X3_tokenComes (by decide) (by decide) rfl (by simp [zcat_rf, zcat_i, zcat_j, zcat_f, zcat_d]) (fun z hz => by cases hz) dX3_goesTick_62 (fun _ => ?_)
      show zS _ 65 _ [] _
      refine zs_goto hE 74 (by decide) dX3_goesTick_65 ?_
      refine zs_sub [2, 1] rfl ?_
      exact sm_X3_goesTick_J74 hE this (0 : Int32)
    · refine zs_aload_n hE 2 rfl rfl dX3_goesTick_68 ?_
      refine zs_iload_n hE 0 rfl rfl dX3_goesTick_69 ?_
      refine zs_callV hE (As := [.int r11]) (encA := encI) (ci := 35) rfl (fun y0 => met_X3_frameComes K y0 r11) q3079 q105 q3076 q3078 (zq qs75) hd_X3_frameComes (by decide) (by decide) rfl (by simp [zcat_rf, zcat_i, zcat_j, zcat_f, zcat_d]) (fun z hz => by cases hz) dX3_goesTick_70 (fun r14 => ?_)
      show zS _ 73 _ [.int r14] _
      refine zs_istore_n hE (i := 1) (q := 1) rfl (by decide) (zcat_rf (some this)) (lv' := [(2, .int r11), (0, va_rf (some this))]) rfl dX3_goesTick_73 ?_
      refine zs_sub [2, 0] rfl ?_
      exact sm_X3_goesTick_J74 hE this r14
theorem hd_X3_goesTick : (yX3_goesTick).cls ≠ "java/lang/invoke/MethodHandle" ∧ (yX3_goesTick).cls ≠ "java/lang/invoke/VarHandle" ∧ (parseMethodDescriptor (yX3_goesTick).desc).map (fun d => d.parameters.length) = some 0 := by decide +kernel
theorem met_X3_goesTick (K : ZK) (this : Nat) : zMeth K yX3_goesTick (zws yX3_goesTick cX3_goesTick 3 (Option.some Jvm.ClassFile.FieldType.int)) 5 190 [.ref this] encI (s_X3_goesTick K this) :=
  fun l G hl hK => zmet_of hl hK (by decide +kernel) rfl rfl (by simp [zsl_nil, zsl_rf, zsl_r, zsl_i, zsl_j, zsl_f, zsl_d]) (fun x hE => by simp only [zla_nil, zla_rf, zla_r, zla_i, zla_j, zla_f, zla_d, Nat.reduceAdd]; exact sm_X3_goesTick hE this)
theorem sm_X3_goes_B4 {x : ZX Int32} {K : ZK} (hE : zE x K cX3_goes RX3 "goes" 4 6 212 encI (Option.some Jvm.ClassFile.FieldType.int) []) (x0 : Nat) (x1 : Int32) (self4 : (Int32 × Int32) → ZP Int32) (hs4 : ∀ v : Int32 × Int32, zS x 4 [(0, va_rf (some x0)), (1, .int x1), (2, .int v.1), (3, .int v.2)] [] (self4 v)) (x2 : Int32) (x3 : Int32) : zS x 4 [(0, va_rf (some x0)), (1, .int x1), (2, .int x2), (3, .int x3)] [] (s_X3_goes_B4 K x0 x1 self4 x2 x3) := by
  unfold s_X3_goes_B4
  refine zs_iload_n hE 3 rfl rfl dX3_goes_4 ?_
  refine zs_iload_n hE 1 rfl rfl dX3_goes_5 ?_
  refine zs_icmp_ge hE 22 (by decide) dX3_goes_6 ?_ ?_
  · refine zs_iload_n hE 2 rfl rfl dX3_goes_22 ?_
    exact zs_iret hE dX3_goes_23
  · refine zs_iload_n hE 2 rfl rfl dX3_goes_9 ?_
    refine zs_aload_n hE 0 rfl rfl dX3_goes_10 ?_
    refine zs_callV hE (As := []) (encA := encI) (ci := 35) rfl (fun y0 => met_X3_goesTick K y0) q3056 q105 q3053 q3055 (zq qs70) hd_X3_goesTick (by decide) (by decide) rfl (by simp [zcat_rf, zcat_i, zcat_j, zcat_f, zcat_d]) (fun z hz => by cases hz) dX3_goes_11 (fun r1 => ?_)
    show zS _ 14 _ [.int r1, .int x2] _
    refine zs_iadd hE dX3_goes_14 ?_
    refine zs_istore_n hE (i := 2) (q := 2) rfl (by decide) (rfl) (lv' := [(0, va_rf (some x0)), (1, .int x1), (3, .int x3)]) rfl dX3_goes_15 ?_
    refine zs_iinc hE 3 (v := (1 : Int32)) rfl (by decide) (by decide) (rfl) (lv' := [(2, .int (x2 + r1)), (0, va_rf (some x0)), (1, .int x1)]) rfl dX3_goes_16 ?_
    refine zs_goto hE 4 (by decide) dX3_goes_19 ?_
    refine zs_sub [2, 3, 1, 0] rfl ?_
    exact hs4 (x2 + r1, x3 + (1 : Int32))
theorem sm_X3_goes_L4 {x : ZX Int32} {K : ZK} (hE : zE x K cX3_goes RX3 "goes" 4 6 212 encI (Option.some Jvm.ClassFile.FieldType.int) []) (x0 : Nat) (x1 : Int32) (v : Int32 × Int32) : zS x 4 [(0, va_rf (some x0)), (1, .int x1), (2, .int v.1), (3, .int v.2)] [] (s_X3_goes_L4 K x0 x1 v) := by
  unfold s_X3_goes_L4
  exact zs_loop (lvf := fun v => [(0, va_rf (some x0)), (1, .int x1), (2, .int v.1), (3, .int v.2)]) (fun self4 hs4 v => sm_X3_goes_B4 hE x0 x1 self4 hs4 v.1 v.2) v
theorem sm_X3_goes {x : ZX Int32} {K : ZK} (hE : zE x K cX3_goes RX3 "goes" 4 6 212 encI (Option.some Jvm.ClassFile.FieldType.int) []) (this : Nat) (a1 : Int32) : zS x 0 [(0, va_rf (some this)), (1, .int a1)] [] (s_X3_goes K this a1) := by
  unfold s_X3_goes
  refine zs_iconst hE (v := (0 : Int32)) (by decide) dX3_goes_0 ?_
  refine zs_istore_n hE (i := 2) (q := 2) rfl (by decide) (rfl) (lv' := [(0, va_rf (some this)), (1, .int a1)]) rfl dX3_goes_1 ?_
  refine zs_iconst hE (v := (0 : Int32)) (by decide) dX3_goes_2 ?_
  refine zs_istore_n hE (i := 3) (q := 3) rfl (by decide) (rfl) (lv' := [(2, .int (0 : Int32)), (0, va_rf (some this)), (1, .int a1)]) rfl dX3_goes_3 ?_
  refine zs_sub [2, 3, 1, 0] rfl ?_
  exact sm_X3_goes_L4 hE this a1 ((0 : Int32), (0 : Int32))
theorem hd_X3_goes : (yX3_goes).cls ≠ "java/lang/invoke/MethodHandle" ∧ (yX3_goes).cls ≠ "java/lang/invoke/VarHandle" ∧ (parseMethodDescriptor (yX3_goes).desc).map (fun d => d.parameters.length) = some 1 := by decide +kernel
theorem met_X3_goes (K : ZK) (this : Nat) (a1 : Int32) : zMeth K yX3_goes (zws yX3_goes cX3_goes 4 (Option.some Jvm.ClassFile.FieldType.int)) 6 212 [.ref this, .int a1] encI (s_X3_goes K this a1) :=
  fun l G hl hK => zmet_of hl hK (by decide +kernel) rfl rfl (by simp [zsl_nil, zsl_rf, zsl_r, zsl_i, zsl_j, zsl_f, zsl_d]) (fun x hE => by simp only [zla_nil, zla_rf, zla_r, zla_i, zla_j, zla_f, zla_d, Nat.reduceAdd]; exact sm_X3_goes hE this a1)
theorem sm_X3_tick {x : ZX Int32} {K : ZK} (hE : zE x K cX3_tick RX3 "tick" 2 7 235 encI (Option.some Jvm.ClassFile.FieldType.int) []) (this : Nat) (a1 : Int32) : zS x 0 [(0, va_rf (some this)), (1, .int a1)] [] (s_X3_tick K this a1) := by
  unfold s_X3_tick
  refine zs_aload_n hE 0 rfl rfl dX3_tick_0 ?_
  refine zs_callV hE (As := []) (encA := encV) (ci := 35) rfl (fun y0 => met_X3_begins K y0) q2920 q105 q2917 q2919 (zq qs46) hd_X3_begins (by decide) (by decide) rfl (by simp [zcat_rf, zcat_i, zcat_j, zcat_f, zcat_d]) (fun z hz => by cases hz) dX3_tick_1 (fun _ => ?_)
  show zS _ 4 _ [] _
  refine zs_aload_n hE 0 rfl rfl dX3_tick_4 ?_
  refine zs_iload_n hE 1 rfl rfl dX3_tick_5 ?_
  refine zs_callV hE (As := [.int a1]) (encA := encI) (ci := 35) rfl (fun y0 => met_X3_isRefusedTicks K y0 a1) q3045 q105 q3042 q3044 (zq qs68) hd_X3_isRefusedTicks (by decide) (by decide) rfl (by simp [zcat_rf, zcat_i, zcat_j, zcat_f, zcat_d]) (fun z hz => by cases hz) dX3_tick_6 (fun r1 => ?_)
  show zS _ 9 _ [.int r1] _
  refine zs_if_eq hE 19 (by decide) dX3_tick_9 ?_ ?_
  · refine zs_aload_n hE 0 rfl rfl dX3_tick_19 ?_
    refine zs_aload_n hE 0 rfl rfl dX3_tick_20 ?_
    refine zs_iload_n hE 1 rfl rfl dX3_tick_21 ?_
    refine zs_callV hE (As := [.int a1]) (encA := encI) (ci := 35) rfl (fun y0 => met_X3_goes K y0 a1) q3052 q105 q3049 q3051 (zq qs69) hd_X3_goes (by decide) (by decide) rfl (by simp [zcat_rf, zcat_i, zcat_j, zcat_f, zcat_d]) (fun z hz => by cases hz) dX3_tick_22 (fun r2 => ?_)
    show zS _ 25 _ [.int r2, va_rf (some this)] _
    refine zs_callV hE (As := [.int r2]) (encA := encI) (ci := 35) rfl (fun y0 => met_X3_keeps K y0 r2) q2965 q105 q2962 q2964 (zq qs55) hd_X3_keeps (by decide) (by decide) rfl (by simp [zcat_rf, zcat_i, zcat_j, zcat_f, zcat_d]) (fun z hz => by cases hz) dX3_tick_25 (fun r3 => ?_)
    show zS _ 28 _ [.int r3] _
    exact zs_iret hE dX3_tick_28
  · refine zs_aload_n hE 0 rfl rfl dX3_tick_12 ?_
    refine zs_callV hE (As := []) (encA := encI) (ci := 35) rfl (fun y0 => met_X3_refused K y0) q2949 q105 q2946 q2948 (zq qs51) hd_X3_refused (by decide) (by decide) rfl (by simp [zcat_rf, zcat_i, zcat_j, zcat_f, zcat_d]) (fun z hz => by cases hz) dX3_tick_13 (fun r4 => ?_)
    show zS _ 16 _ [.int r4] _
    refine zs_goto hE 28 (by decide) dX3_tick_16 ?_
    exact zs_iret hE dX3_tick_28
theorem hd_X3_tick : (yX3_tick).cls ≠ "java/lang/invoke/MethodHandle" ∧ (yX3_tick).cls ≠ "java/lang/invoke/VarHandle" ∧ (parseMethodDescriptor (yX3_tick).desc).map (fun d => d.parameters.length) = some 1 := by decide +kernel
theorem met_X3_tick (K : ZK) (this : Nat) (a1 : Int32) : zMeth K yX3_tick (zws yX3_tick cX3_tick 2 (Option.some Jvm.ClassFile.FieldType.int)) 7 235 [.ref this, .int a1] encI (s_X3_tick K this a1) :=
  fun l G hl hK => zmet_of hl hK (by decide +kernel) rfl rfl (by simp [zsl_nil, zsl_rf, zsl_r, zsl_i, zsl_j, zsl_f, zsl_d]) (fun x hE => by simp only [zla_nil, zla_rf, zla_r, zla_i, zla_j, zla_f, zla_d, Nat.reduceAdd]; exact sm_X3_tick hE this a1)
theorem sm_X3_onRing_J98 {x : ZX Int32} {K : ZK} (hE : zE x K cX3_onRing RX3 "onRing" 3 2 121 encI (Option.some Jvm.ClassFile.FieldType.int) []) (t0 : Int32) (t1 : Option Nat) : zS x 98 [] [.int t0, va_rf t1] (s_X3_onRing_J98 K t0 t1) := by
  unfold s_X3_onRing_J98
  refine zs_ald hE dX3_onRing_98 (fun v6 => ?_)
  exact zs_iret hE dX3_onRing_99
theorem sm_X3_onRing {x : ZX Int32} {K : ZK} (hE : zE x K cX3_onRing RX3 "onRing" 3 2 121 encI (Option.some Jvm.ClassFile.FieldType.int) []) (this : Nat) (a1 : Int32) : zS x 0 [(0, va_rf (some this)), (1, .int a1)] [] (s_X3_onRing K this a1) := by
  unfold s_X3_onRing
  refine zs_aload_n hE 0 rfl rfl dX3_onRing_0 ?_
  refine zs_iconst hE (v := (0 : Int32)) (by decide) dX3_onRing_1 ?_
  refine zs_putI hE (ci := 35) (k := 5) rfl (by decide) in_X3 (Or.inl q2834) (Or.inl rfl) (Or.inl rfl) (fun h => nomatch h) rfl dX3_onRing_2 ?_
  refine zs_aload_n hE 0 rfl rfl dX3_onRing_5 ?_
  refine zs_getR hE (ci := 35) (k := 0) rfl (by decide) in_X3 (Or.inl q2829) (Or.inl rfl) dX3_onRing_6 (fun v1 => ?_)
  refine zs_bipush hE (v := (18 : Int32)) (by decide) dX3_onRing_9 ?_
  refine zs_ald hE dX3_onRing_11 (fun v2 => ?_)
  refine zs_istore_n hE (i := 2) (q := 2) rfl (by decide) (rfl) (lv' := [(0, va_rf (some this)), (1, .int a1)]) rfl dX3_onRing_12 ?_
  refine zs_iload_n hE 2 rfl rfl dX3_onRing_13 ?_
  refine zs_tsw hE (offl := [42, 44, 60, 86, 103, 120, 137]) rfl (by decide) dX3_onRing_14 (tgt := 168) (by decide) ⟨⟨by decide, 56, by decide, ?_⟩, ⟨by decide, 58, by decide, ?_⟩, ⟨by decide, 74, by decide, ?_⟩, ⟨by decide, 100, by decide, ?_⟩, ⟨by decide, 117, by decide, ?_⟩, ⟨by decide, 134, by decide, ?_⟩, ⟨by decide, 151, by decide, ?_⟩, trivial⟩ ?_
  · refine zs_iload_n hE 0 rfl rfl dX3_onRing_56 ?_
    exact zs_iret hE dX3_onRing_57
  · refine zs_iload_n hE 0 rfl rfl dX3_onRing_58 ?_
    refine zs_if_ne hE 66 (by decide) dX3_onRing_59 ?_ ?_
    · refine zs_iconst hE (v := (-1 : Int32)) (by decide) dX3_onRing_62 ?_
      refine zs_goto hE 73 (by decide) dX3_onRing_63 ?_
      exact zs_iret hE dX3_onRing_73
    · refine zs_aload_n hE 1 rfl rfl dX3_onRing_66 ?_
      refine zs_getR hE (ci := 35) (k := 0) rfl (by decide) in_X3 (Or.inl q2829) (Or.inl rfl) dX3_onRing_67 (fun v3 => ?_)
      refine zs_bipush hE (v := (19 : Int32)) (by decide) dX3_onRing_70 ?_
      refine zs_ald hE dX3_onRing_72 (fun v4 => ?_)
      exact zs_iret hE dX3_onRing_73
  · refine zs_iload_n hE 0 rfl rfl dX3_onRing_74 ?_
    refine zs_if_ne hE 82 (by decide) dX3_onRing_75 ?_ ?_
    · refine zs_iconst hE (v := (-1 : Int32)) (by decide) dX3_onRing_78 ?_
      refine zs_goto hE 99 (by decide) dX3_onRing_79 ?_
      exact zs_iret hE dX3_onRing_99
    · refine zs_aload_n hE 1 rfl rfl dX3_onRing_82 ?_
      refine zs_getR hE (ci := 35) (k := 0) rfl (by decide) in_X3 (Or.inl q2829) (Or.inl rfl) dX3_onRing_83 (fun v5 => ?_)
      refine zs_iload_n hE 0 rfl rfl dX3_onRing_86 ?_
      refine zs_iconst hE (v := (1 : Int32)) (by decide) dX3_onRing_87 ?_
      refine zs_icmp_ne hE 96 (by decide) dX3_onRing_88 ?_ ?_
      · refine zs_bipush hE (v := (20 : Int32)) (by decide) dX3_onRing_91 ?_
        refine zs_goto hE 98 (by decide) dX3_onRing_93 ?_
        refine zs_sub [] rfl ?_
        exact sm_X3_onRing_J98 hE (20 : Int32) v5
      · refine zs_bipush hE (v := (25 : Int32)) (by decide) dX3_onRing_96 ?_
        refine zs_sub [] rfl ?_
        exact sm_X3_onRing_J98 hE (25 : Int32) v5
  · refine zs_iload_n hE 0 rfl rfl dX3_onRing_100 ?_
    refine zs_iconst hE (v := (2 : Int32)) (by decide) dX3_onRing_101 ?_
    refine zs_icmp_ge hE 109 (by decide) dX3_onRing_102 ?_ ?_
    · refine zs_aload_n hE 1 rfl rfl dX3_onRing_109 ?_
      refine zs_getR hE (ci := 35) (k := 0) rfl (by decide) in_X3 (Or.inl q2829) (Or.inl rfl) dX3_onRing_110 (fun v7 => ?_)
      refine zs_bipush hE (v := (28 : Int32)) (by decide) dX3_onRing_113 ?_
      refine zs_ald hE dX3_onRing_115 (fun v8 => ?_)
      exact zs_iret hE dX3_onRing_116
    · refine zs_iconst hE (v := (-1 : Int32)) (by decide) dX3_onRing_105 ?_
      refine zs_goto hE 116 (by decide) dX3_onRing_106 ?_
      exact zs_iret hE dX3_onRing_116
  · refine zs_iload_n hE 0 rfl rfl dX3_onRing_117 ?_
    refine zs_iconst hE (v := (2 : Int32)) (by decide) dX3_onRing_118 ?_
    refine zs_icmp_ge hE 126 (by decide) dX3_onRing_119 ?_ ?_
    · refine zs_aload_n hE 1 rfl rfl dX3_onRing_126 ?_
      refine zs_getR hE (ci := 35) (k := 0) rfl (by decide) in_X3 (Or.inl q2829) (Or.inl rfl) dX3_onRing_127 (fun v9 => ?_)
      refine zs_bipush hE (v := (27 : Int32)) (by decide) dX3_onRing_130 ?_
      refine zs_ald hE dX3_onRing_132 (fun v10 => ?_)
      exact zs_iret hE dX3_onRing_133
    · refine zs_iconst hE (v := (-1 : Int32)) (by decide) dX3_onRing_122 ?_
      refine zs_goto hE 133 (by decide) dX3_onRing_123 ?_
      exact zs_iret hE dX3_onRing_133
  · refine zs_iload_n hE 0 rfl rfl dX3_onRing_134 ?_
    refine zs_iconst hE (v := (2 : Int32)) (by decide) dX3_onRing_135 ?_
    refine zs_icmp_ge hE 143 (by decide) dX3_onRing_136 ?_ ?_
    · refine zs_aload_n hE 1 rfl rfl dX3_onRing_143 ?_
      refine zs_getR hE (ci := 35) (k := 0) rfl (by decide) in_X3 (Or.inl q2829) (Or.inl rfl) dX3_onRing_144 (fun v11 => ?_)
      refine zs_bipush hE (v := (29 : Int32)) (by decide) dX3_onRing_147 ?_
      refine zs_ald hE dX3_onRing_149 (fun v12 => ?_)
      exact zs_iret hE dX3_onRing_150
    · refine zs_iconst hE (v := (-1 : Int32)) (by decide) dX3_onRing_139 ?_
      refine zs_goto hE 150 (by decide) dX3_onRing_140 ?_
      exact zs_iret hE dX3_onRing_150
  · refine zs_iload_n hE 0 rfl rfl dX3_onRing_151 ?_
    refine zs_iconst hE (v := (2 : Int32)) (by decide) dX3_onRing_152 ?_
    refine zs_icmp_ge hE 160 (by decide) dX3_onRing_153 ?_ ?_
    · refine zs_aload_n hE 1 rfl rfl dX3_onRing_160 ?_
      refine zs_getR hE (ci := 35) (k := 0) rfl (by decide) in_X3 (Or.inl q2829) (Or.inl rfl) dX3_onRing_161 (fun v13 => ?_)
      refine zs_bipush hE (v := (22 : Int32)) (by decide) dX3_onRing_164 ?_
      refine zs_ald hE dX3_onRing_166 (fun v14 => ?_)
      exact zs_iret hE dX3_onRing_167
    · refine zs_iconst hE (v := (-1 : Int32)) (by decide) dX3_onRing_156 ?_
      refine zs_goto hE 167 (by decide) dX3_onRing_157 ?_
      exact zs_iret hE dX3_onRing_167
  · refine zs_aload_n hE 1 rfl rfl dX3_onRing_168 ?_
    refine zs_iconst hE (v := (1 : Int32)) (by decide) dX3_onRing_169 ?_
    refine zs_callV hE (As := [.int (1 : Int32)]) (encA := encI) (ci := 35) rfl (fun y0 => met_X3_no K y0 (1 : Int32)) q2953 q105 q2950 q2952 (zq qs52) hd_X3_no (by decide) (by decide) rfl (by simp [zcat_rf, zcat_i, zcat_j, zcat_f, zcat_d]) (fun z hz => by cases hz) dX3_onRing_170 (fun r15 => ?_)
    show zS _ 173 _ [.int r15] _
    exact zs_iret hE dX3_onRing_173
theorem hd_X3_onRing : (yX3_onRing).cls ≠ "java/lang/invoke/MethodHandle" ∧ (yX3_onRing).cls ≠ "java/lang/invoke/VarHandle" ∧ (parseMethodDescriptor (yX3_onRing).desc).map (fun d => d.parameters.length) = some 1 := by decide +kernel
theorem met_X3_onRing (K : ZK) (this : Nat) (a1 : Int32) : zMeth K yX3_onRing (zws yX3_onRing cX3_onRing 3 (Option.some Jvm.ClassFile.FieldType.int)) 2 121 [.ref this, .int a1] encI (s_X3_onRing K this a1) :=
  fun l G hl hK => zmet_of hl hK (by decide +kernel) rfl rfl (by simp [zsl_nil, zsl_rf, zsl_r, zsl_i, zsl_j, zsl_f, zsl_d]) (fun x hE => by simp only [zla_nil, zla_rf, zla_r, zla_i, zla_j, zla_f, zla_d, Nat.reduceAdd]; exact sm_X3_onRing hE this a1)
theorem sm_X3_stationAt {x : ZX Int32} {K : ZK} (hE : zE x K cX3_stationAt RX3 "stationAt" 2 2 122 encI (Option.some Jvm.ClassFile.FieldType.int) []) (this : Nat) (a1 : Int32) : zS x 0 [(0, va_rf (some this)), (1, .int a1)] [] (s_X3_stationAt K this a1) := by
  unfold s_X3_stationAt
  refine zs_aload_n hE 0 rfl rfl dX3_stationAt_0 ?_
  refine zs_iconst hE (v := (0 : Int32)) (by decide) dX3_stationAt_1 ?_
  refine zs_putI hE (ci := 35) (k := 5) rfl (by decide) in_X3 (Or.inl q2834) (Or.inl rfl) (Or.inl rfl) (fun h => nomatch h) rfl dX3_stationAt_2 ?_
  refine zs_iload_n hE 1 rfl rfl dX3_stationAt_5 ?_
  refine zs_iconst hE (v := (0 : Int32)) (by decide) dX3_stationAt_6 ?_
  refine zs_aload_n hE 0 rfl rfl dX3_stationAt_7 ?_
  refine zs_getR hE (ci := 35) (k := 0) rfl (by decide) in_X3 (Or.inl q2829) (Or.inl rfl) dX3_stationAt_8 (fun v1 => ?_)
  refine zs_iconst hE (v := (1 : Int32)) (by decide) dX3_stationAt_11 ?_
  refine zs_ald hE dX3_stationAt_12 (fun v2 => ?_)
  refine zs_iconst hE (v := (1 : Int32)) (by decide) dX3_stationAt_13 ?_
  refine zs_isub hE dX3_stationAt_14 ?_
  refine zs_callS hE (As := [.int a1, .int (0 : Int32), .int (v2 - (1 : Int32))]) (encA := encI) (met_X3_in K a1 (0 : Int32) (v2 - (1 : Int32))) q2933 q105 q2931 q2932 hd_X3_in (by decide) (by decide) rfl (by simp [zcat_rf, zcat_i, zcat_j, zcat_f, zcat_d]) (fun z hz => by cases hz) dX3_stationAt_15 (fun r3 => ?_)
  show zS _ 18 _ [.int r3] _
  refine zs_if_eq hE 30 (by decide) dX3_stationAt_18 ?_ ?_
  · refine zs_aload_n hE 0 rfl rfl dX3_stationAt_30 ?_
    refine zs_iconst hE (v := (1 : Int32)) (by decide) dX3_stationAt_31 ?_
    refine zs_callV hE (As := [.int (1 : Int32)]) (encA := encI) (ci := 35) rfl (fun y0 => met_X3_no K y0 (1 : Int32)) q2953 q105 q2950 q2952 (zq qs52) hd_X3_no (by decide) (by decide) rfl (by simp [zcat_rf, zcat_i, zcat_j, zcat_f, zcat_d]) (fun z hz => by cases hz) dX3_stationAt_32 (fun r4 => ?_)
    show zS _ 35 _ [.int r4] _
    exact zs_iret hE dX3_stationAt_35
  · refine zs_aload_n hE 0 rfl rfl dX3_stationAt_21 ?_
    refine zs_iload_n hE 1 rfl rfl dX3_stationAt_22 ?_
    refine zs_iconst hE (v := (0 : Int32)) (by decide) dX3_stationAt_23 ?_
    refine zs_callV hE (As := [.int a1, .int (0 : Int32)]) (encA := encI) (ci := 35) rfl (fun y0 => met_X3_sv K y0 a1 (0 : Int32)) q2945 q105 q2942 q2944 (zq qs50) hd_X3_sv (by decide) (by decide) rfl (by simp [zcat_rf, zcat_i, zcat_j, zcat_f, zcat_d]) (fun z hz => by cases hz) dX3_stationAt_24 (fun r5 => ?_)
    show zS _ 27 _ [.int r5] _
    refine zs_goto hE 35 (by decide) dX3_stationAt_27 ?_
    exact zs_iret hE dX3_stationAt_35
theorem hd_X3_stationAt : (yX3_stationAt).cls ≠ "java/lang/invoke/MethodHandle" ∧ (yX3_stationAt).cls ≠ "java/lang/invoke/VarHandle" ∧ (parseMethodDescriptor (yX3_stationAt).desc).map (fun d => d.parameters.length) = some 1 := by decide +kernel
theorem met_X3_stationAt (K : ZK) (this : Nat) (a1 : Int32) : zMeth K yX3_stationAt (zws yX3_stationAt cX3_stationAt 2 (Option.some Jvm.ClassFile.FieldType.int)) 2 122 [.ref this, .int a1] encI (s_X3_stationAt K this a1) :=
  fun l G hl hK => zmet_of hl hK (by decide +kernel) rfl rfl (by simp [zsl_nil, zsl_rf, zsl_r, zsl_i, zsl_j, zsl_f, zsl_d]) (fun x hE => by simp only [zla_nil, zla_rf, zla_r, zla_i, zla_j, zla_f, zla_d, Nat.reduceAdd]; exact sm_X3_stationAt hE this a1)
theorem sm_X3_waits {x : ZX Int32} {K : ZK} (hE : zE x K cX3_waits RX3 "waits" 4 3 145 encI (Option.some Jvm.ClassFile.FieldType.int) []) (this : Nat) (a1 : Int32) (a2 : Int32) : zS x 0 [(0, va_rf (some this)), (1, .int a1), (2, .int a2)] [] (s_X3_waits K this a1 a2) := by
  unfold s_X3_waits
  refine zs_aload_n hE 0 rfl rfl dX3_waits_0 ?_
  refine zs_iconst hE (v := (0 : Int32)) (by decide) dX3_waits_1 ?_
  refine zs_putI hE (ci := 35) (k := 5) rfl (by decide) in_X3 (Or.inl q2834) (Or.inl rfl) (Or.inl rfl) (fun h => nomatch h) rfl dX3_waits_2 ?_
  refine zs_aload_n hE 0 rfl rfl dX3_waits_5 ?_
  refine zs_iload_n hE 1 rfl rfl dX3_waits_6 ?_
  refine zs_callV hE (As := [.int a1]) (encA := encI) (ci := 35) rfl (fun y0 => met_X3_placeOf K y0 a1) q2941 q105 q2938 q2940 (zq qs49) hd_X3_placeOf (by decide) (by decide) rfl (by simp [zcat_rf, zcat_i, zcat_j, zcat_f, zcat_d]) (fun z hz => by cases hz) dX3_waits_7 (fun r1 => ?_)
  show zS _ 10 _ [.int r1] _
  refine zs_istore_n hE (i := 3) (q := 3) rfl (by decide) (rfl) (lv' := [(0, va_rf (some this)), (1, .int a1), (2, .int a2)]) rfl dX3_waits_10 ?_
  refine zs_iload_n hE 0 rfl rfl dX3_waits_11 ?_
  refine zs_if_ge hE 21 (by decide) dX3_waits_12 ?_ ?_
  · refine zs_iload_n hE 3 rfl rfl dX3_waits_21 ?_
    refine zs_iconst hE (v := (0 : Int32)) (by decide) dX3_waits_22 ?_
    refine zs_aload_n hE 1 rfl rfl dX3_waits_23 ?_
    refine zs_iload_n hE 0 rfl rfl dX3_waits_24 ?_
    refine zs_iconst hE (v := (1 : Int32)) (by decide) dX3_waits_25 ?_
    refine zs_callV hE (As := [.int r1, .int (1 : Int32)]) (encA := encI) (ci := 35) rfl (fun y0 => met_X3_sv K y0 r1 (1 : Int32)) q2945 q105 q2942 q2944 (zq qs50) hd_X3_sv (by decide) (by decide) rfl (by simp [zcat_rf, zcat_i, zcat_j, zcat_f, zcat_d]) (fun z hz => by cases hz) dX3_waits_26 (fun r2 => ?_)
    show zS _ 29 _ [.int r2, .int (0 : Int32), .int a2] _
    refine zs_iconst hE (v := (1 : Int32)) (by decide) dX3_waits_29 ?_
    refine zs_isub hE dX3_waits_30 ?_
    refine zs_callS hE (As := [.int a2, .int (0 : Int32), .int (r2 - (1 : Int32))]) (encA := encI) (met_X3_in K a2 (0 : Int32) (r2 - (1 : Int32))) q2933 q105 q2931 q2932 hd_X3_in (by decide) (by decide) rfl (by simp [zcat_rf, zcat_i, zcat_j, zcat_f, zcat_d]) (fun z hz => by cases hz) dX3_waits_31 (fun r3 => ?_)
    show zS _ 34 _ [.int r3] _
    refine zs_if_eq hE 47 (by decide) dX3_waits_34 ?_ ?_
    · refine zs_aload_n hE 1 rfl rfl dX3_waits_47 ?_
      refine zs_iconst hE (v := (2 : Int32)) (by decide) dX3_waits_48 ?_
      refine zs_callV hE (As := [.int (2 : Int32)]) (encA := encI) (ci := 35) rfl (fun y0 => met_X3_no K y0 (2 : Int32)) q2953 q105 q2950 q2952 (zq qs52) hd_X3_no (by decide) (by decide) rfl (by simp [zcat_rf, zcat_i, zcat_j, zcat_f, zcat_d]) (fun z hz => by cases hz) dX3_waits_49 (fun r4 => ?_)
      show zS _ 52 _ [.int r4] _
      exact zs_iret hE dX3_waits_52
    · refine zs_aload_n hE 1 rfl rfl dX3_waits_37 ?_
      refine zs_iload_n hE 0 rfl rfl dX3_waits_38 ?_
      refine zs_iload_n hE 3 rfl rfl dX3_waits_39 ?_
      refine zs_iconst hE (v := (0 : Int32)) (by decide) dX3_waits_40 ?_
      refine zs_callV hE (As := [.int r1, .int a2, .int (0 : Int32)]) (encA := encI) (ci := 35) rfl (fun y0 => met_X3_qv K y0 r1 a2 (0 : Int32)) q3001 q105 q2998 q3000 (zq qs62) hd_X3_qv (by decide) (by decide) rfl (by simp [zcat_rf, zcat_i, zcat_j, zcat_f, zcat_d]) (fun z hz => by cases hz) dX3_waits_41 (fun r5 => ?_)
      show zS _ 44 _ [.int r5] _
      refine zs_goto hE 52 (by decide) dX3_waits_44 ?_
      exact zs_iret hE dX3_waits_52
  · refine zs_aload_n hE 1 rfl rfl dX3_waits_15 ?_
    refine zs_iconst hE (v := (1 : Int32)) (by decide) dX3_waits_16 ?_
    refine zs_callV hE (As := [.int (1 : Int32)]) (encA := encI) (ci := 35) rfl (fun y0 => met_X3_no K y0 (1 : Int32)) q2953 q105 q2950 q2952 (zq qs52) hd_X3_no (by decide) (by decide) rfl (by simp [zcat_rf, zcat_i, zcat_j, zcat_f, zcat_d]) (fun z hz => by cases hz) dX3_waits_17 (fun r6 => ?_)
    show zS _ 20 _ [.int r6] _
    exact zs_iret hE dX3_waits_20
theorem hd_X3_waits : (yX3_waits).cls ≠ "java/lang/invoke/MethodHandle" ∧ (yX3_waits).cls ≠ "java/lang/invoke/VarHandle" ∧ (parseMethodDescriptor (yX3_waits).desc).map (fun d => d.parameters.length) = some 2 := by decide +kernel
theorem met_X3_waits (K : ZK) (this : Nat) (a1 : Int32) (a2 : Int32) : zMeth K yX3_waits (zws yX3_waits cX3_waits 4 (Option.some Jvm.ClassFile.FieldType.int)) 3 145 [.ref this, .int a1, .int a2] encI (s_X3_waits K this a1 a2) :=
  fun l G hl hK => zmet_of hl hK (by decide +kernel) rfl rfl (by simp [zsl_nil, zsl_rf, zsl_r, zsl_i, zsl_j, zsl_f, zsl_d]) (fun x hE => by simp only [zla_nil, zla_rf, zla_r, zla_i, zla_j, zla_f, zla_d, Nat.reduceAdd]; exact sm_X3_waits hE this a1 a2)
theorem sm_X3_isRound {x : ZX Int32} {K : ZK} (hE : zE x K cX3_isRound RX3 "isRound" 2 1 100 encI (Option.some Jvm.ClassFile.FieldType.boolean) []) (this : Nat) (a1 : Int32) : zS x 0 [(0, va_rf (some this)), (1, .int a1)] [] (s_X3_isRound K this a1) := by
  unfold s_X3_isRound
  refine zs_aload_n hE 0 rfl rfl dX3_isRound_0 ?_
  refine zs_getR hE (ci := 35) (k := 0) rfl (by decide) in_X3 (Or.inl q2829) (Or.inl rfl) dX3_isRound_1 (fun v1 => ?_)
  refine zs_bipush hE (v := (18 : Int32)) (by decide) dX3_isRound_4 ?_
  refine zs_ald hE dX3_isRound_6 (fun v2 => ?_)
  refine zs_iconst hE (v := (2 : Int32)) (by decide) dX3_isRound_7 ?_
  refine zs_icmp_ne hE 26 (by decide) dX3_isRound_8 ?_ ?_
  · refine zs_aload_n hE 0 rfl rfl dX3_isRound_11 ?_
    refine zs_getR hE (ci := 35) (k := 0) rfl (by decide) in_X3 (Or.inl q2829) (Or.inl rfl) dX3_isRound_12 (fun v3 => ?_)
    refine zs_bipush hE (v := (22 : Int32)) (by decide) dX3_isRound_15 ?_
    refine zs_ald hE dX3_isRound_17 (fun v4 => ?_)
    refine zs_iload_n hE 1 rfl rfl dX3_isRound_18 ?_
    refine zs_icmp_ne hE 26 (by decide) dX3_isRound_19 ?_ ?_
    · refine zs_iconst hE (v := (1 : Int32)) (by decide) dX3_isRound_22 ?_
      refine zs_goto hE 27 (by decide) dX3_isRound_23 ?_
      exact zs_zret hE rfl dX3_isRound_27
    · refine zs_iconst hE (v := (0 : Int32)) (by decide) dX3_isRound_26 ?_
      exact zs_zret hE rfl dX3_isRound_27
  · refine zs_iconst hE (v := (0 : Int32)) (by decide) dX3_isRound_26 ?_
    exact zs_zret hE rfl dX3_isRound_27
theorem hd_X3_isRound : (yX3_isRound).cls ≠ "java/lang/invoke/MethodHandle" ∧ (yX3_isRound).cls ≠ "java/lang/invoke/VarHandle" ∧ (parseMethodDescriptor (yX3_isRound).desc).map (fun d => d.parameters.length) = some 1 := by decide +kernel
theorem met_X3_isRound (K : ZK) (this : Nat) (a1 : Int32) : zMeth K yX3_isRound (zws yX3_isRound cX3_isRound 2 (Option.some Jvm.ClassFile.FieldType.boolean)) 1 100 [.ref this, .int a1] encI (s_X3_isRound K this a1) :=
  fun l G hl hK => zmet_of hl hK (by decide +kernel) rfl rfl (by simp [zsl_nil, zsl_rf, zsl_r, zsl_i, zsl_j, zsl_f, zsl_d]) (fun x hE => by simp only [zla_nil, zla_rf, zla_r, zla_i, zla_j, zla_f, zla_d, Nat.reduceAdd]; exact sm_X3_isRound hE this a1)
theorem sm_X3_spot_B14 {x : ZX Int32} {K : ZK} (hE : zE x K cX3_spot RX3 "spot" 4 3 145 encI (Option.some Jvm.ClassFile.FieldType.int) []) (x0 : Nat) (x1 : Int32) (x2 : Int32) (self2 : Int32 → ZP Int32) (self14 : Int32 → ZP Int32) (hs2 : ∀ v : Int32, zS x 2 [(0, va_rf (some x0)), (1, .int x1), (2, .int v)] [] (self2 v)) (hs14 : ∀ v : Int32, zS x 14 [(0, va_rf (some x0)), (1, .int x1), (2, .int x2), (3, .int v)] [] (self14 v)) (x3 : Int32) : zS x 14 [(0, va_rf (some x0)), (1, .int x1), (2, .int x2), (3, .int x3)] [] (s_X3_spot_B14 K x0 x1 x2 self2 self14 x3) := by
  unfold s_X3_spot_B14
  refine zs_iload_n hE 3 rfl rfl dX3_spot_14 ?_
  refine zs_aload_n hE 0 rfl rfl dX3_spot_15 ?_
  refine zs_iload_n hE 2 rfl rfl dX3_spot_16 ?_
  refine zs_iconst hE (v := (1 : Int32)) (by decide) dX3_spot_17 ?_
  refine zs_callV hE (As := [.int x2, .int (1 : Int32)]) (encA := encI) (ci := 35) rfl (fun y0 => met_X3_sv K y0 x2 (1 : Int32)) q2945 q105 q2942 q2944 (zq qs50) hd_X3_sv (by decide) (by decide) rfl (by simp [zcat_rf, zcat_i, zcat_j, zcat_f, zcat_d]) (fun z hz => by cases hz) dX3_spot_18 (fun r3 => ?_)
  show zS _ 21 _ [.int r3, .int x3] _
  refine zs_icmp_ge hE 48 (by decide) dX3_spot_21 ?_ ?_
  · refine zs_iinc hE 2 (v := (1 : Int32)) rfl (by decide) (by decide) (rfl) (lv' := [(0, va_rf (some x0)), (1, .int x1), (3, .int x3)]) rfl dX3_spot_48 ?_
    refine zs_goto hE 2 (by decide) dX3_spot_51 ?_
    refine zs_sub [1, 2, 0] rfl ?_
    exact hs2 (x2 + (1 : Int32))
  · refine zs_aload_n hE 0 rfl rfl dX3_spot_24 ?_
    refine zs_iload_n hE 2 rfl rfl dX3_spot_25 ?_
    refine zs_iload_n hE 3 rfl rfl dX3_spot_26 ?_
    refine zs_iconst hE (v := (0 : Int32)) (by decide) dX3_spot_27 ?_
    refine zs_callV hE (As := [.int x2, .int x3, .int (0 : Int32)]) (encA := encI) (ci := 35) rfl (fun y0 => met_X3_qv K y0 x2 x3 (0 : Int32)) q3001 q105 q2998 q3000 (zq qs62) hd_X3_qv (by decide) (by decide) rfl (by simp [zcat_rf, zcat_i, zcat_j, zcat_f, zcat_d]) (fun z hz => by cases hz) dX3_spot_28 (fun r4 => ?_)
    show zS _ 31 _ [.int r4] _
    refine zs_iload_n hE 1 rfl rfl dX3_spot_31 ?_
    refine zs_icmp_ne hE 42 (by decide) dX3_spot_32 ?_ ?_
    · refine zs_bipush hE (v := (12 : Int32)) (by decide) dX3_spot_35 ?_
      refine zs_iload_n hE 2 rfl rfl dX3_spot_37 ?_
      refine zs_imul hE dX3_spot_38 ?_
      refine zs_iload_n hE 3 rfl rfl dX3_spot_39 ?_
      refine zs_iadd hE dX3_spot_40 ?_
      exact zs_iret hE dX3_spot_41
    · refine zs_iinc hE 3 (v := (1 : Int32)) rfl (by decide) (by decide) (rfl) (lv' := [(0, va_rf (some x0)), (1, .int x1), (2, .int x2)]) rfl dX3_spot_42 ?_
      refine zs_goto hE 14 (by decide) dX3_spot_45 ?_
      refine zs_sub [1, 2, 3, 0] rfl ?_
      exact hs14 (x3 + (1 : Int32))
theorem sm_X3_spot_L14 {x : ZX Int32} {K : ZK} (hE : zE x K cX3_spot RX3 "spot" 4 3 145 encI (Option.some Jvm.ClassFile.FieldType.int) []) (x0 : Nat) (x1 : Int32) (x2 : Int32) (self2 : Int32 → ZP Int32) (hs2 : ∀ v : Int32, zS x 2 [(0, va_rf (some x0)), (1, .int x1), (2, .int v)] [] (self2 v)) (v : Int32) : zS x 14 [(0, va_rf (some x0)), (1, .int x1), (2, .int x2), (3, .int v)] [] (s_X3_spot_L14 K x0 x1 x2 self2 v) := by
  unfold s_X3_spot_L14
  exact zs_loop (lvf := fun v => [(0, va_rf (some x0)), (1, .int x1), (2, .int x2), (3, .int v)]) (fun self14 hs14 v => sm_X3_spot_B14 hE x0 x1 x2 self2 self14 hs2 hs14 v) v
theorem sm_X3_spot_B2 {x : ZX Int32} {K : ZK} (hE : zE x K cX3_spot RX3 "spot" 4 3 145 encI (Option.some Jvm.ClassFile.FieldType.int) []) (x0 : Nat) (x1 : Int32) (self2 : Int32 → ZP Int32) (hs2 : ∀ v : Int32, zS x 2 [(0, va_rf (some x0)), (1, .int x1), (2, .int v)] [] (self2 v)) (x2 : Int32) : zS x 2 [(0, va_rf (some x0)), (1, .int x1), (2, .int x2)] [] (s_X3_spot_B2 K x0 x1 self2 x2) := by
  unfold s_X3_spot_B2
  refine zs_iload_n hE 2 rfl rfl dX3_spot_2 ?_
  refine zs_aload_n hE 0 rfl rfl dX3_spot_3 ?_
  refine zs_getR hE (ci := 35) (k := 0) rfl (by decide) in_X3 (Or.inl q2829) (Or.inl rfl) dX3_spot_4 (fun v1 => ?_)
  refine zs_iconst hE (v := (1 : Int32)) (by decide) dX3_spot_7 ?_
  refine zs_ald hE dX3_spot_8 (fun v2 => ?_)
  refine zs_icmp_ge hE 54 (by decide) dX3_spot_9 ?_ ?_
  · refine zs_iconst hE (v := (-1 : Int32)) (by decide) dX3_spot_54 ?_
    exact zs_iret hE dX3_spot_55
  · refine zs_iconst hE (v := (0 : Int32)) (by decide) dX3_spot_12 ?_
    refine zs_istore_n hE (i := 3) (q := 3) rfl (by decide) (rfl) (lv' := [(0, va_rf (some x0)), (1, .int x1), (2, .int x2)]) rfl dX3_spot_13 ?_
    refine zs_sub [1, 2, 3, 0] rfl ?_
    exact sm_X3_spot_L14 hE x0 x1 x2 self2 hs2 (0 : Int32)
theorem sm_X3_spot_L2 {x : ZX Int32} {K : ZK} (hE : zE x K cX3_spot RX3 "spot" 4 3 145 encI (Option.some Jvm.ClassFile.FieldType.int) []) (x0 : Nat) (x1 : Int32) (v : Int32) : zS x 2 [(0, va_rf (some x0)), (1, .int x1), (2, .int v)] [] (s_X3_spot_L2 K x0 x1 v) := by
  unfold s_X3_spot_L2
  exact zs_loop (lvf := fun v => [(0, va_rf (some x0)), (1, .int x1), (2, .int v)]) (fun self2 hs2 v => sm_X3_spot_B2 hE x0 x1 self2 hs2 v) v
theorem sm_X3_spot {x : ZX Int32} {K : ZK} (hE : zE x K cX3_spot RX3 "spot" 4 3 145 encI (Option.some Jvm.ClassFile.FieldType.int) []) (this : Nat) (a1 : Int32) : zS x 0 [(0, va_rf (some this)), (1, .int a1)] [] (s_X3_spot K this a1) := by
  unfold s_X3_spot
  refine zs_iconst hE (v := (0 : Int32)) (by decide) dX3_spot_0 ?_
  refine zs_istore_n hE (i := 2) (q := 2) rfl (by decide) (rfl) (lv' := [(0, va_rf (some this)), (1, .int a1)]) rfl dX3_spot_1 ?_
  refine zs_sub [1, 2, 0] rfl ?_
  exact sm_X3_spot_L2 hE this a1 (0 : Int32)
theorem hd_X3_spot : (yX3_spot).cls ≠ "java/lang/invoke/MethodHandle" ∧ (yX3_spot).cls ≠ "java/lang/invoke/VarHandle" ∧ (parseMethodDescriptor (yX3_spot).desc).map (fun d => d.parameters.length) = some 1 := by decide +kernel
theorem met_X3_spot (K : ZK) (this : Nat) (a1 : Int32) : zMeth K yX3_spot (zws yX3_spot cX3_spot 4 (Option.some Jvm.ClassFile.FieldType.int)) 3 145 [.ref this, .int a1] encI (s_X3_spot K this a1) :=
  fun l G hl hK => zmet_of hl hK (by decide +kernel) rfl rfl (by simp [zsl_nil, zsl_rf, zsl_r, zsl_i, zsl_j, zsl_f, zsl_d]) (fun x hE => by simp only [zla_nil, zla_rf, zla_r, zla_i, zla_j, zla_f, zla_d, Nat.reduceAdd]; exact sm_X3_spot hE this a1)
theorem sm_X3_rankOf {x : ZX Int32} {K : ZK} (hE : zE x K cX3_rankOf RX3 "rankOf" 3 4 168 encI (Option.some Jvm.ClassFile.FieldType.int) []) (this : Nat) (a1 : Int32) : zS x 0 [(0, va_rf (some this)), (1, .int a1)] [] (s_X3_rankOf K this a1) := by
  unfold s_X3_rankOf
  refine zs_aload_n hE 0 rfl rfl dX3_rankOf_0 ?_
  refine zs_iconst hE (v := (0 : Int32)) (by decide) dX3_rankOf_1 ?_
  refine zs_putI hE (ci := 35) (k := 5) rfl (by decide) in_X3 (Or.inl q2834) (Or.inl rfl) (Or.inl rfl) (fun h => nomatch h) rfl dX3_rankOf_2 ?_
  refine zs_aload_n hE 0 rfl rfl dX3_rankOf_5 ?_
  refine zs_iload_n hE 1 rfl rfl dX3_rankOf_6 ?_
  refine zs_callV hE (As := [.int a1]) (encA := encI) (ci := 35) rfl (fun y0 => met_X3_isRound K y0 a1) q3099 q105 q3096 q3098 (zq qs76) hd_X3_isRound (by decide) (by decide) rfl (by simp [zcat_rf, zcat_i, zcat_j, zcat_f, zcat_d]) (fun z hz => by cases hz) dX3_rankOf_7 (fun r1 => ?_)
  show zS _ 10 _ [.int r1] _
  refine zs_if_eq hE 21 (by decide) dX3_rankOf_10 ?_ ?_
  · refine zs_aload_n hE 0 rfl rfl dX3_rankOf_21 ?_
    refine zs_iload_n hE 1 rfl rfl dX3_rankOf_22 ?_
    refine zs_callV hE (As := [.int a1]) (encA := encI) (ci := 35) rfl (fun y0 => met_X3_spot K y0 a1) q3103 q105 q3100 q3102 (zq qs77) hd_X3_spot (by decide) (by decide) rfl (by simp [zcat_rf, zcat_i, zcat_j, zcat_f, zcat_d]) (fun z hz => by cases hz) dX3_rankOf_23 (fun r2 => ?_)
    show zS _ 26 _ [.int r2] _
    refine zs_istore_n hE (i := 2) (q := 2) rfl (by decide) (rfl) (lv' := [(0, va_rf (some this)), (1, .int a1)]) rfl dX3_rankOf_26 ?_
    refine zs_iload_n hE 0 rfl rfl dX3_rankOf_27 ?_
    refine zs_if_ge hE 39 (by decide) dX3_rankOf_28 ?_ ?_
    · refine zs_aload_n hE 1 rfl rfl dX3_rankOf_39 ?_
      refine zs_iload_n hE 0 rfl rfl dX3_rankOf_40 ?_
      refine zs_bipush hE (v := (12 : Int32)) (by decide) dX3_rankOf_41 ?_
      refine zs_idiv hE dX3_rankOf_43 ?_
      refine zs_iload_n hE 0 rfl rfl dX3_rankOf_44 ?_
      refine zs_bipush hE (v := (12 : Int32)) (by decide) dX3_rankOf_45 ?_
      refine zs_irem hE dX3_rankOf_47 ?_
      refine zs_iconst hE (v := (2 : Int32)) (by decide) dX3_rankOf_48 ?_
      refine zs_callV hE (As := [.int (r2 / (12 : Int32)), .int (r2 - r2 / (12 : Int32) * (12 : Int32)), .int (2 : Int32)]) (encA := encI) (ci := 35) rfl (fun y0 => met_X3_qv K y0 (r2 / (12 : Int32)) (r2 - r2 / (12 : Int32) * (12 : Int32)) (2 : Int32)) q3001 q105 q2998 q3000 (zq qs62) hd_X3_qv (by decide) (by decide) rfl (by simp [zcat_rf, zcat_i, zcat_j, zcat_f, zcat_d]) (fun z hz => by cases hz) dX3_rankOf_49 (fun r3 => ?_)
      show zS _ 52 _ [.int r3] _
      exact zs_iret hE dX3_rankOf_52
    · refine zs_aload_n hE 1 rfl rfl dX3_rankOf_31 ?_
      refine zs_iconst hE (v := (1 : Int32)) (by decide) dX3_rankOf_32 ?_
      refine zs_callV hE (As := [.int (1 : Int32)]) (encA := encI) (ci := 35) rfl (fun y0 => met_X3_no K y0 (1 : Int32)) q2953 q105 q2950 q2952 (zq qs52) hd_X3_no (by decide) (by decide) rfl (by simp [zcat_rf, zcat_i, zcat_j, zcat_f, zcat_d]) (fun z hz => by cases hz) dX3_rankOf_33 (fun r4 => ?_)
      show zS _ 36 _ [.int r4] _
      refine zs_goto hE 52 (by decide) dX3_rankOf_36 ?_
      exact zs_iret hE dX3_rankOf_52
  · refine zs_aload_n hE 0 rfl rfl dX3_rankOf_13 ?_
    refine zs_getR hE (ci := 35) (k := 0) rfl (by decide) in_X3 (Or.inl q2829) (Or.inl rfl) dX3_rankOf_14 (fun v5 => ?_)
    refine zs_bipush hE (v := (25 : Int32)) (by decide) dX3_rankOf_17 ?_
    refine zs_ald hE dX3_rankOf_19 (fun v6 => ?_)
    exact zs_iret hE dX3_rankOf_20
theorem hd_X3_rankOf : (yX3_rankOf).cls ≠ "java/lang/invoke/MethodHandle" ∧ (yX3_rankOf).cls ≠ "java/lang/invoke/VarHandle" ∧ (parseMethodDescriptor (yX3_rankOf).desc).map (fun d => d.parameters.length) = some 1 := by decide +kernel
theorem met_X3_rankOf (K : ZK) (this : Nat) (a1 : Int32) : zMeth K yX3_rankOf (zws yX3_rankOf cX3_rankOf 3 (Option.some Jvm.ClassFile.FieldType.int)) 4 168 [.ref this, .int a1] encI (s_X3_rankOf K this a1) :=
  fun l G hl hK => zmet_of hl hK (by decide +kernel) rfl rfl (by simp [zsl_nil, zsl_rf, zsl_r, zsl_i, zsl_j, zsl_f, zsl_d]) (fun x hE => by simp only [zla_nil, zla_rf, zla_r, zla_i, zla_j, zla_f, zla_d, Nat.reduceAdd]; exact sm_X3_rankOf hE this a1)
theorem sm_X3_whereIs {x : ZX Int32} {K : ZK} (hE : zE x K cX3_whereIs RX3 "whereIs" 3 4 168 encI (Option.some Jvm.ClassFile.FieldType.int) []) (this : Nat) (a1 : Int32) : zS x 0 [(0, va_rf (some this)), (1, .int a1)] [] (s_X3_whereIs K this a1) := by
  unfold s_X3_whereIs
  refine zs_aload_n hE 0 rfl rfl dX3_whereIs_0 ?_
  refine zs_iconst hE (v := (0 : Int32)) (by decide) dX3_whereIs_1 ?_
  refine zs_putI hE (ci := 35) (k := 5) rfl (by decide) in_X3 (Or.inl q2834) (Or.inl rfl) (Or.inl rfl) (fun h => nomatch h) rfl dX3_whereIs_2 ?_
  refine zs_aload_n hE 0 rfl rfl dX3_whereIs_5 ?_
  refine zs_iload_n hE 1 rfl rfl dX3_whereIs_6 ?_
  refine zs_callV hE (As := [.int a1]) (encA := encI) (ci := 35) rfl (fun y0 => met_X3_isRound K y0 a1) q3099 q105 q3096 q3098 (zq qs76) hd_X3_isRound (by decide) (by decide) rfl (by simp [zcat_rf, zcat_i, zcat_j, zcat_f, zcat_d]) (fun z hz => by cases hz) dX3_whereIs_7 (fun r1 => ?_)
  show zS _ 10 _ [.int r1] _
  refine zs_if_eq hE 16 (by decide) dX3_whereIs_10 ?_ ?_
  · refine zs_aload_n hE 0 rfl rfl dX3_whereIs_16 ?_
    refine zs_iload_n hE 1 rfl rfl dX3_whereIs_17 ?_
    refine zs_callV hE (As := [.int a1]) (encA := encI) (ci := 35) rfl (fun y0 => met_X3_spot K y0 a1) q3103 q105 q3100 q3102 (zq qs77) hd_X3_spot (by decide) (by decide) rfl (by simp [zcat_rf, zcat_i, zcat_j, zcat_f, zcat_d]) (fun z hz => by cases hz) dX3_whereIs_18 (fun r2 => ?_)
    show zS _ 21 _ [.int r2] _
    refine zs_istore_n hE (i := 2) (q := 2) rfl (by decide) (rfl) (lv' := [(0, va_rf (some this)), (1, .int a1)]) rfl dX3_whereIs_21 ?_
    refine zs_iload_n hE 0 rfl rfl dX3_whereIs_22 ?_
    refine zs_if_ge hE 34 (by decide) dX3_whereIs_23 ?_ ?_
    · refine zs_aload_n hE 1 rfl rfl dX3_whereIs_34 ?_
      refine zs_iload_n hE 0 rfl rfl dX3_whereIs_35 ?_
      refine zs_bipush hE (v := (12 : Int32)) (by decide) dX3_whereIs_36 ?_
      refine zs_idiv hE dX3_whereIs_38 ?_
      refine zs_iconst hE (v := (0 : Int32)) (by decide) dX3_whereIs_39 ?_
      refine zs_callV hE (As := [.int (r2 / (12 : Int32)), .int (0 : Int32)]) (encA := encI) (ci := 35) rfl (fun y0 => met_X3_sv K y0 (r2 / (12 : Int32)) (0 : Int32)) q2945 q105 q2942 q2944 (zq qs50) hd_X3_sv (by decide) (by decide) rfl (by simp [zcat_rf, zcat_i, zcat_j, zcat_f, zcat_d]) (fun z hz => by cases hz) dX3_whereIs_40 (fun r3 => ?_)
      show zS _ 43 _ [.int r3] _
      exact zs_iret hE dX3_whereIs_43
    · refine zs_aload_n hE 1 rfl rfl dX3_whereIs_26 ?_
      refine zs_iconst hE (v := (1 : Int32)) (by decide) dX3_whereIs_27 ?_
      refine zs_callV hE (As := [.int (1 : Int32)]) (encA := encI) (ci := 35) rfl (fun y0 => met_X3_no K y0 (1 : Int32)) q2953 q105 q2950 q2952 (zq qs52) hd_X3_no (by decide) (by decide) rfl (by simp [zcat_rf, zcat_i, zcat_j, zcat_f, zcat_d]) (fun z hz => by cases hz) dX3_whereIs_28 (fun r4 => ?_)
      show zS _ 31 _ [.int r4] _
      refine zs_goto hE 43 (by decide) dX3_whereIs_31 ?_
      exact zs_iret hE dX3_whereIs_43
  · refine zs_bipush hE (v := (100 : Int32)) (by decide) dX3_whereIs_13 ?_
    exact zs_iret hE dX3_whereIs_15
theorem hd_X3_whereIs : (yX3_whereIs).cls ≠ "java/lang/invoke/MethodHandle" ∧ (yX3_whereIs).cls ≠ "java/lang/invoke/VarHandle" ∧ (parseMethodDescriptor (yX3_whereIs).desc).map (fun d => d.parameters.length) = some 1 := by decide +kernel
theorem met_X3_whereIs (K : ZK) (this : Nat) (a1 : Int32) : zMeth K yX3_whereIs (zws yX3_whereIs cX3_whereIs 3 (Option.some Jvm.ClassFile.FieldType.int)) 4 168 [.ref this, .int a1] encI (s_X3_whereIs K this a1) :=
  fun l G hl hK => zmet_of hl hK (by decide +kernel) rfl rfl (by simp [zsl_nil, zsl_rf, zsl_r, zsl_i, zsl_j, zsl_f, zsl_d]) (fun x hE => by simp only [zla_nil, zla_rf, zla_r, zla_i, zla_j, zla_f, zla_d, Nat.reduceAdd]; exact sm_X3_whereIs hE this a1)
theorem sm_X3_firstRank {x : ZX Int32} {K : ZK} (hE : zE x K cX3_firstRank RX3 "firstRank" 2 3 145 encI (Option.some Jvm.ClassFile.FieldType.int) []) (this : Nat) (a1 : Int32) : zS x 0 [(0, va_rf (some this)), (1, .int a1)] [] (s_X3_firstRank K this a1) := by
  unfold s_X3_firstRank
  refine zs_aload_n hE 0 rfl rfl dX3_firstRank_0 ?_
  refine zs_iload_n hE 1 rfl rfl dX3_firstRank_1 ?_
  refine zs_iconst hE (v := (1 : Int32)) (by decide) dX3_firstRank_2 ?_
  refine zs_callV hE (As := [.int a1, .int (1 : Int32)]) (encA := encI) (ci := 35) rfl (fun y0 => met_X3_sv K y0 a1 (1 : Int32)) q2945 q105 q2942 q2944 (zq qs50) hd_X3_sv (by decide) (by decide) rfl (by simp [zcat_rf, zcat_i, zcat_j, zcat_f, zcat_d]) (fun z hz => by cases hz) dX3_firstRank_3 (fun r1 => ?_)
  show zS _ 6 _ [.int r1] _
  refine zs_if_ne hE 13 (by decide) dX3_firstRank_6 ?_ ?_
  · refine zs_iconst hE (v := (-1 : Int32)) (by decide) dX3_firstRank_9 ?_
    refine zs_goto hE 20 (by decide) dX3_firstRank_10 ?_
    exact zs_iret hE dX3_firstRank_20
  · refine zs_aload_n hE 0 rfl rfl dX3_firstRank_13 ?_
    refine zs_iload_n hE 1 rfl rfl dX3_firstRank_14 ?_
    refine zs_iconst hE (v := (0 : Int32)) (by decide) dX3_firstRank_15 ?_
    refine zs_iconst hE (v := (2 : Int32)) (by decide) dX3_firstRank_16 ?_
    refine zs_callV hE (As := [.int a1, .int (0 : Int32), .int (2 : Int32)]) (encA := encI) (ci := 35) rfl (fun y0 => met_X3_qv K y0 a1 (0 : Int32) (2 : Int32)) q3001 q105 q2998 q3000 (zq qs62) hd_X3_qv (by decide) (by decide) rfl (by simp [zcat_rf, zcat_i, zcat_j, zcat_f, zcat_d]) (fun z hz => by cases hz) dX3_firstRank_17 (fun r2 => ?_)
    show zS _ 20 _ [.int r2] _
    exact zs_iret hE dX3_firstRank_20
theorem hd_X3_firstRank : (yX3_firstRank).cls ≠ "java/lang/invoke/MethodHandle" ∧ (yX3_firstRank).cls ≠ "java/lang/invoke/VarHandle" ∧ (parseMethodDescriptor (yX3_firstRank).desc).map (fun d => d.parameters.length) = some 1 := by decide +kernel
theorem met_X3_firstRank (K : ZK) (this : Nat) (a1 : Int32) : zMeth K yX3_firstRank (zws yX3_firstRank cX3_firstRank 2 (Option.some Jvm.ClassFile.FieldType.int)) 3 145 [.ref this, .int a1] encI (s_X3_firstRank K this a1) :=
  fun l G hl hK => zmet_of hl hK (by decide +kernel) rfl rfl (by simp [zsl_nil, zsl_rf, zsl_r, zsl_i, zsl_j, zsl_f, zsl_d]) (fun x hE => by simp only [zla_nil, zla_rf, zla_r, zla_i, zla_j, zla_f, zla_d, Nat.reduceAdd]; exact sm_X3_firstRank hE this a1)
theorem sm_X3_lengths_B4 {x : ZX Int32} {K : ZK} (hE : zE x K cX3_lengths RX3 "lengths" 4 3 145 encI (Option.some Jvm.ClassFile.FieldType.int) []) (x0 : Nat) (x1 : Int32) (self4 : (Int32 × Int32) → ZP Int32) (hs4 : ∀ v : Int32 × Int32, zS x 4 [(0, va_rf (some x0)), (1, .int x1), (2, .int v.1), (3, .int v.2)] [] (self4 v)) (x2 : Int32) (x3 : Int32) : zS x 4 [(0, va_rf (some x0)), (1, .int x1), (2, .int x2), (3, .int x3)] [] (s_X3_lengths_B4 K x0 x1 self4 x2 x3) := by
  unfold s_X3_lengths_B4
  refine zs_iload_n hE 3 rfl rfl dX3_lengths_4 ?_
  refine zs_aload_n hE 0 rfl rfl dX3_lengths_5 ?_
  refine zs_iload_n hE 1 rfl rfl dX3_lengths_6 ?_
  refine zs_iconst hE (v := (1 : Int32)) (by decide) dX3_lengths_7 ?_
  refine zs_callV hE (As := [.int x1, .int (1 : Int32)]) (encA := encI) (ci := 35) rfl (fun y0 => met_X3_sv K y0 x1 (1 : Int32)) q2945 q105 q2942 q2944 (zq qs50) hd_X3_sv (by decide) (by decide) rfl (by simp [zcat_rf, zcat_i, zcat_j, zcat_f, zcat_d]) (fun z hz => by cases hz) dX3_lengths_8 (fun r1 => ?_)
  show zS _ 11 _ [.int r1, .int x3] _
  refine zs_icmp_ge hE 30 (by decide) dX3_lengths_11 ?_ ?_
  · refine zs_iload_n hE 2 rfl rfl dX3_lengths_30 ?_
    exact zs_iret hE dX3_lengths_31
  · refine zs_iload_n hE 2 rfl rfl dX3_lengths_14 ?_
    refine zs_aload_n hE 0 rfl rfl dX3_lengths_15 ?_
    refine zs_iload_n hE 1 rfl rfl dX3_lengths_16 ?_
    refine zs_iload_n hE 3 rfl rfl dX3_lengths_17 ?_
    refine zs_iconst hE (v := (3 : Int32)) (by decide) dX3_lengths_18 ?_
    refine zs_callV hE (As := [.int x1, .int x3, .int (3 : Int32)]) (encA := encI) (ci := 35) rfl (fun y0 => met_X3_qv K y0 x1 x3 (3 : Int32)) q3001 q105 q2998 q3000 (zq qs62) hd_X3_qv (by decide) (by decide) rfl (by simp [zcat_rf, zcat_i, zcat_j, zcat_f, zcat_d]) (fun z hz => by cases hz) dX3_lengths_19 (fun r2 => ?_)
    show zS _ 22 _ [.int r2, .int x2] _
    refine zs_iadd hE dX3_lengths_22 ?_
    refine zs_istore_n hE (i := 2) (q := 2) rfl (by decide) (rfl) (lv' := [(0, va_rf (some x0)), (1, .int x1), (3, .int x3)]) rfl dX3_lengths_23 ?_
    refine zs_iinc hE 3 (v := (1 : Int32)) rfl (by decide) (by decide) (rfl) (lv' := [(2, .int (x2 + r2)), (0, va_rf (some x0)), (1, .int x1)]) rfl dX3_lengths_24 ?_
    refine zs_goto hE 4 (by decide) dX3_lengths_27 ?_
    refine zs_sub [2, 3, 1, 0] rfl ?_
    exact hs4 (x2 + r2, x3 + (1 : Int32))
theorem sm_X3_lengths_L4 {x : ZX Int32} {K : ZK} (hE : zE x K cX3_lengths RX3 "lengths" 4 3 145 encI (Option.some Jvm.ClassFile.FieldType.int) []) (x0 : Nat) (x1 : Int32) (v : Int32 × Int32) : zS x 4 [(0, va_rf (some x0)), (1, .int x1), (2, .int v.1), (3, .int v.2)] [] (s_X3_lengths_L4 K x0 x1 v) := by
  unfold s_X3_lengths_L4
  exact zs_loop (lvf := fun v => [(0, va_rf (some x0)), (1, .int x1), (2, .int v.1), (3, .int v.2)]) (fun self4 hs4 v => sm_X3_lengths_B4 hE x0 x1 self4 hs4 v.1 v.2) v
theorem sm_X3_lengths {x : ZX Int32} {K : ZK} (hE : zE x K cX3_lengths RX3 "lengths" 4 3 145 encI (Option.some Jvm.ClassFile.FieldType.int) []) (this : Nat) (a1 : Int32) : zS x 0 [(0, va_rf (some this)), (1, .int a1)] [] (s_X3_lengths K this a1) := by
  unfold s_X3_lengths
  refine zs_iconst hE (v := (0 : Int32)) (by decide) dX3_lengths_0 ?_
  refine zs_istore_n hE (i := 2) (q := 2) rfl (by decide) (rfl) (lv' := [(0, va_rf (some this)), (1, .int a1)]) rfl dX3_lengths_1 ?_
  refine zs_iconst hE (v := (0 : Int32)) (by decide) dX3_lengths_2 ?_
  refine zs_istore_n hE (i := 3) (q := 3) rfl (by decide) (rfl) (lv' := [(2, .int (0 : Int32)), (0, va_rf (some this)), (1, .int a1)]) rfl dX3_lengths_3 ?_
  refine zs_sub [2, 3, 1, 0] rfl ?_
  exact sm_X3_lengths_L4 hE this a1 ((0 : Int32), (0 : Int32))
theorem hd_X3_lengths : (yX3_lengths).cls ≠ "java/lang/invoke/MethodHandle" ∧ (yX3_lengths).cls ≠ "java/lang/invoke/VarHandle" ∧ (parseMethodDescriptor (yX3_lengths).desc).map (fun d => d.parameters.length) = some 1 := by decide +kernel
theorem met_X3_lengths (K : ZK) (this : Nat) (a1 : Int32) : zMeth K yX3_lengths (zws yX3_lengths cX3_lengths 4 (Option.some Jvm.ClassFile.FieldType.int)) 3 145 [.ref this, .int a1] encI (s_X3_lengths K this a1) :=
  fun l G hl hK => zmet_of hl hK (by decide +kernel) rfl rfl (by simp [zsl_nil, zsl_rf, zsl_r, zsl_i, zsl_j, zsl_f, zsl_d]) (fun x hE => by simp only [zla_nil, zla_rf, zla_r, zla_i, zla_j, zla_f, zla_d, Nat.reduceAdd]; exact sm_X3_lengths hE this a1)
theorem sm_X3_queueOf {x : ZX Int32} {K : ZK} (hE : zE x K cX3_queueOf RX3 "queueOf" 4 4 168 encI (Option.some Jvm.ClassFile.FieldType.int) []) (this : Nat) (a1 : Int32) (a2 : Int32) : zS x 0 [(0, va_rf (some this)), (1, .int a1), (2, .int a2)] [] (s_X3_queueOf K this a1 a2) := by
  unfold s_X3_queueOf
  refine zs_aload_n hE 0 rfl rfl dX3_queueOf_0 ?_
  refine zs_iconst hE (v := (0 : Int32)) (by decide) dX3_queueOf_1 ?_
  refine zs_putI hE (ci := 35) (k := 5) rfl (by decide) in_X3 (Or.inl q2834) (Or.inl rfl) (Or.inl rfl) (fun h => nomatch h) rfl dX3_queueOf_2 ?_
  refine zs_aload_n hE 0 rfl rfl dX3_queueOf_5 ?_
  refine zs_iload_n hE 1 rfl rfl dX3_queueOf_6 ?_
  refine zs_callV hE (As := [.int a1]) (encA := encI) (ci := 35) rfl (fun y0 => met_X3_placeOf K y0 a1) q2941 q105 q2938 q2940 (zq qs49) hd_X3_placeOf (by decide) (by decide) rfl (by simp [zcat_rf, zcat_i, zcat_j, zcat_f, zcat_d]) (fun z hz => by cases hz) dX3_queueOf_7 (fun r1 => ?_)
  show zS _ 10 _ [.int r1] _
  refine zs_istore_n hE (i := 3) (q := 3) rfl (by decide) (rfl) (lv' := [(0, va_rf (some this)), (1, .int a1), (2, .int a2)]) rfl dX3_queueOf_10 ?_
  refine zs_iload_n hE 0 rfl rfl dX3_queueOf_11 ?_
  refine zs_if_ge hE 21 (by decide) dX3_queueOf_12 ?_ ?_
  · refine zs_iload_n hE 3 rfl rfl dX3_queueOf_21 ?_
    refine zs_tsw hE (offl := [34, 41, 47, 53, 60]) rfl (by decide) dX3_queueOf_22 (tgt := 89) (by decide) ⟨⟨by decide, 56, by decide, ?_⟩, ⟨by decide, 63, by decide, ?_⟩, ⟨by decide, 69, by decide, ?_⟩, ⟨by decide, 75, by decide, ?_⟩, ⟨by decide, 82, by decide, ?_⟩, trivial⟩ ?_
    · refine zs_aload_n hE 1 rfl rfl dX3_queueOf_56 ?_
      refine zs_iload_n hE 0 rfl rfl dX3_queueOf_57 ?_
      refine zs_iconst hE (v := (1 : Int32)) (by decide) dX3_queueOf_58 ?_
      refine zs_callV hE (As := [.int r1, .int (1 : Int32)]) (encA := encI) (ci := 35) rfl (fun y0 => met_X3_sv K y0 r1 (1 : Int32)) q2945 q105 q2942 q2944 (zq qs50) hd_X3_sv (by decide) (by decide) rfl (by simp [zcat_rf, zcat_i, zcat_j, zcat_f, zcat_d]) (fun z hz => by cases hz) dX3_queueOf_59 (fun r2 => ?_)
      show zS _ 62 _ [.int r2] _
      exact zs_iret hE dX3_queueOf_62
    · refine zs_aload_n hE 1 rfl rfl dX3_queueOf_63 ?_
      refine zs_iload_n hE 0 rfl rfl dX3_queueOf_64 ?_
      refine zs_callV hE (As := [.int r1]) (encA := encI) (ci := 35) rfl (fun y0 => met_X3_firstRank K y0 r1) q3115 q105 q3112 q3114 (zq qs78) hd_X3_firstRank (by decide) (by decide) rfl (by simp [zcat_rf, zcat_i, zcat_j, zcat_f, zcat_d]) (fun z hz => by cases hz) dX3_queueOf_65 (fun r3 => ?_)
      show zS _ 68 _ [.int r3] _
      exact zs_iret hE dX3_queueOf_68
    · refine zs_aload_n hE 1 rfl rfl dX3_queueOf_69 ?_
      refine zs_iload_n hE 0 rfl rfl dX3_queueOf_70 ?_
      refine zs_callV hE (As := [.int r1]) (encA := encI) (ci := 35) rfl (fun y0 => met_X3_lengths K y0 r1) q3119 q105 q3116 q3118 (zq qs79) hd_X3_lengths (by decide) (by decide) rfl (by simp [zcat_rf, zcat_i, zcat_j, zcat_f, zcat_d]) (fun z hz => by cases hz) dX3_queueOf_71 (fun r4 => ?_)
      show zS _ 74 _ [.int r4] _
      exact zs_iret hE dX3_queueOf_74
    · refine zs_aload_n hE 1 rfl rfl dX3_queueOf_75 ?_
      refine zs_iload_n hE 0 rfl rfl dX3_queueOf_76 ?_
      refine zs_iconst hE (v := (2 : Int32)) (by decide) dX3_queueOf_77 ?_
      refine zs_callV hE (As := [.int r1, .int (2 : Int32)]) (encA := encI) (ci := 35) rfl (fun y0 => met_X3_sv K y0 r1 (2 : Int32)) q2945 q105 q2942 q2944 (zq qs50) hd_X3_sv (by decide) (by decide) rfl (by simp [zcat_rf, zcat_i, zcat_j, zcat_f, zcat_d]) (fun z hz => by cases hz) dX3_queueOf_78 (fun r5 => ?_)
      show zS _ 81 _ [.int r5] _
      exact zs_iret hE dX3_queueOf_81
    · refine zs_aload_n hE 1 rfl rfl dX3_queueOf_82 ?_
      refine zs_iload_n hE 0 rfl rfl dX3_queueOf_83 ?_
      refine zs_iconst hE (v := (3 : Int32)) (by decide) dX3_queueOf_84 ?_
      refine zs_callV hE (As := [.int r1, .int (3 : Int32)]) (encA := encI) (ci := 35) rfl (fun y0 => met_X3_sv K y0 r1 (3 : Int32)) q2945 q105 q2942 q2944 (zq qs50) hd_X3_sv (by decide) (by decide) rfl (by simp [zcat_rf, zcat_i, zcat_j, zcat_f, zcat_d]) (fun z hz => by cases hz) dX3_queueOf_85 (fun r6 => ?_)
      show zS _ 88 _ [.int r6] _
      exact zs_iret hE dX3_queueOf_88
    · refine zs_aload_n hE 1 rfl rfl dX3_queueOf_89 ?_
      refine zs_iconst hE (v := (2 : Int32)) (by decide) dX3_queueOf_90 ?_
      refine zs_callV hE (As := [.int (2 : Int32)]) (encA := encI) (ci := 35) rfl (fun y0 => met_X3_no K y0 (2 : Int32)) q2953 q105 q2950 q2952 (zq qs52) hd_X3_no (by decide) (by decide) rfl (by simp [zcat_rf, zcat_i, zcat_j, zcat_f, zcat_d]) (fun z hz => by cases hz) dX3_queueOf_91 (fun r7 => ?_)
      show zS _ 94 _ [.int r7] _
      exact zs_iret hE dX3_queueOf_94
  · refine zs_aload_n hE 1 rfl rfl dX3_queueOf_15 ?_
    refine zs_iconst hE (v := (1 : Int32)) (by decide) dX3_queueOf_16 ?_
    refine zs_callV hE (As := [.int (1 : Int32)]) (encA := encI) (ci := 35) rfl (fun y0 => met_X3_no K y0 (1 : Int32)) q2953 q105 q2950 q2952 (zq qs52) hd_X3_no (by decide) (by decide) rfl (by simp [zcat_rf, zcat_i, zcat_j, zcat_f, zcat_d]) (fun z hz => by cases hz) dX3_queueOf_17 (fun r8 => ?_)
    show zS _ 20 _ [.int r8] _
    exact zs_iret hE dX3_queueOf_20
theorem hd_X3_queueOf : (yX3_queueOf).cls ≠ "java/lang/invoke/MethodHandle" ∧ (yX3_queueOf).cls ≠ "java/lang/invoke/VarHandle" ∧ (parseMethodDescriptor (yX3_queueOf).desc).map (fun d => d.parameters.length) = some 2 := by decide +kernel
theorem met_X3_queueOf (K : ZK) (this : Nat) (a1 : Int32) (a2 : Int32) : zMeth K yX3_queueOf (zws yX3_queueOf cX3_queueOf 4 (Option.some Jvm.ClassFile.FieldType.int)) 4 168 [.ref this, .int a1, .int a2] encI (s_X3_queueOf K this a1 a2) :=
  fun l G hl hK => zmet_of hl hK (by decide +kernel) rfl rfl (by simp [zsl_nil, zsl_rf, zsl_r, zsl_i, zsl_j, zsl_f, zsl_d]) (fun x hE => by simp only [zla_nil, zla_rf, zla_r, zla_i, zla_j, zla_f, zla_d, Nat.reduceAdd]; exact sm_X3_queueOf hE this a1 a2)
theorem sm_X3_next {x : ZX Int32} {K : ZK} (hE : zE x K cX3_next RX3 "next" 2 4 165 encI (Option.some Jvm.ClassFile.FieldType.int) []) (this : Nat) (a1 : Int32) : zS x 0 [(0, va_rf (some this)), (1, .int a1)] [] (s_X3_next K this a1) := by
  unfold s_X3_next
  refine zs_aload_n hE 0 rfl rfl dX3_next_0 ?_
  refine zs_iconst hE (v := (0 : Int32)) (by decide) dX3_next_1 ?_
  refine zs_putI hE (ci := 35) (k := 5) rfl (by decide) in_X3 (Or.inl q2834) (Or.inl rfl) (Or.inl rfl) (fun h => nomatch h) rfl dX3_next_2 ?_
  refine zs_aload_n hE 0 rfl rfl dX3_next_5 ?_
  refine zs_iload_n hE 1 rfl rfl dX3_next_6 ?_
  refine zs_callV hE (As := [.int a1]) (encA := encI) (ci := 35) rfl (fun y0 => met_X3_placeOf K y0 a1) q2941 q105 q2938 q2940 (zq qs49) hd_X3_placeOf (by decide) (by decide) rfl (by simp [zcat_rf, zcat_i, zcat_j, zcat_f, zcat_d]) (fun z hz => by cases hz) dX3_next_7 (fun r1 => ?_)
  show zS _ 10 _ [.int r1] _
  refine zs_if_ge hE 21 (by decide) dX3_next_10 ?_ ?_
  · refine zs_aload_n hE 0 rfl rfl dX3_next_21 ?_
    refine zs_iload_n hE 1 rfl rfl dX3_next_22 ?_
    refine zs_callV hE (As := [.int a1]) (encA := encI) (ci := 35) rfl (fun y0 => met_X3_nextOf K y0 a1) q2985 q105 q2982 q2984 (zq qs59) hd_X3_nextOf (by decide) (by decide) rfl (by simp [zcat_rf, zcat_i, zcat_j, zcat_f, zcat_d]) (fun z hz => by cases hz) dX3_next_23 (fun r2 => ?_)
    show zS _ 26 _ [.int r2] _
    exact zs_iret hE dX3_next_26
  · refine zs_aload_n hE 0 rfl rfl dX3_next_13 ?_
    refine zs_iconst hE (v := (1 : Int32)) (by decide) dX3_next_14 ?_
    refine zs_callV hE (As := [.int (1 : Int32)]) (encA := encI) (ci := 35) rfl (fun y0 => met_X3_no K y0 (1 : Int32)) q2953 q105 q2950 q2952 (zq qs52) hd_X3_no (by decide) (by decide) rfl (by simp [zcat_rf, zcat_i, zcat_j, zcat_f, zcat_d]) (fun z hz => by cases hz) dX3_next_15 (fun r3 => ?_)
    show zS _ 18 _ [.int r3] _
    refine zs_goto hE 26 (by decide) dX3_next_18 ?_
    exact zs_iret hE dX3_next_26
theorem hd_X3_next : (yX3_next).cls ≠ "java/lang/invoke/MethodHandle" ∧ (yX3_next).cls ≠ "java/lang/invoke/VarHandle" ∧ (parseMethodDescriptor (yX3_next).desc).map (fun d => d.parameters.length) = some 1 := by decide +kernel
theorem met_X3_next (K : ZK) (this : Nat) (a1 : Int32) : zMeth K yX3_next (zws yX3_next cX3_next 2 (Option.some Jvm.ClassFile.FieldType.int)) 4 165 [.ref this, .int a1] encI (s_X3_next K this a1) :=
  fun l G hl hK => zmet_of hl hK (by decide +kernel) rfl rfl (by simp [zsl_nil, zsl_rf, zsl_r, zsl_i, zsl_j, zsl_f, zsl_d]) (fun x hE => by simp only [zla_nil, zla_rf, zla_r, zla_i, zla_j, zla_f, zla_d, Nat.reduceAdd]; exact sm_X3_next hE this a1)
theorem sm_X3_stepsTo_J21 {x : ZX Int32} {K : ZK} (hE : zE x K cX3_stepsTo RX3 "stepsTo" 3 3 144 encI (Option.some Jvm.ClassFile.FieldType.int) []) (x0 : Nat) : zS x 21 [(0, va_rf (some x0))] [] (s_X3_stepsTo_J21 K x0) := by
  unfold s_X3_stepsTo_J21
  refine zs_aload_n hE 0 rfl rfl dX3_stepsTo_21 ?_
  refine zs_iconst hE (v := (1 : Int32)) (by decide) dX3_stepsTo_22 ?_
  refine zs_callV hE (As := [.int (1 : Int32)]) (encA := encI) (ci := 35) rfl (fun y0 => met_X3_no K y0 (1 : Int32)) q2953 q105 q2950 q2952 (zq qs52) hd_X3_no (by decide) (by decide) rfl (by simp [zcat_rf, zcat_i, zcat_j, zcat_f, zcat_d]) (fun z hz => by cases hz) dX3_stepsTo_23 (fun r2 => ?_)
  show zS _ 26 _ [.int r2] _
  exact zs_iret hE dX3_stepsTo_26
theorem sm_X3_stepsTo {x : ZX Int32} {K : ZK} (hE : zE x K cX3_stepsTo RX3 "stepsTo" 3 3 144 encI (Option.some Jvm.ClassFile.FieldType.int) []) (this : Nat) (a1 : Int32) (a2 : Int32) : zS x 0 [(0, va_rf (some this)), (1, .int a1), (2, .int a2)] [] (s_X3_stepsTo K this a1 a2) := by
  unfold s_X3_stepsTo
  refine zs_aload_n hE 0 rfl rfl dX3_stepsTo_0 ?_
  refine zs_iconst hE (v := (0 : Int32)) (by decide) dX3_stepsTo_1 ?_
  refine zs_putI hE (ci := 35) (k := 5) rfl (by decide) in_X3 (Or.inl q2834) (Or.inl rfl) (Or.inl rfl) (fun h => nomatch h) rfl dX3_stepsTo_2 ?_
  refine zs_aload_n hE 0 rfl rfl dX3_stepsTo_5 ?_
  refine zs_iload_n hE 1 rfl rfl dX3_stepsTo_6 ?_
  refine zs_callV hE (As := [.int a1]) (encA := encI) (ci := 35) rfl (fun y0 => met_X3_placeOf K y0 a1) q2941 q105 q2938 q2940 (zq qs49) hd_X3_placeOf (by decide) (by decide) rfl (by simp [zcat_rf, zcat_i, zcat_j, zcat_f, zcat_d]) (fun z hz => by cases hz) dX3_stepsTo_7 (fun r1 => ?_)
  show zS _ 10 _ [.int r1] _
  refine zs_if_lt hE 21 (by decide) dX3_stepsTo_10 ?_ ?_
  · refine zs_sub [0] rfl ?_
    exact sm_X3_stepsTo_J21 hE this
  · refine zs_aload_n hE 0 rfl rfl dX3_stepsTo_13 ?_
    refine zs_iload_n hE 2 rfl rfl dX3_stepsTo_14 ?_
    refine zs_callV hE (As := [.int a2]) (encA := encI) (ci := 35) rfl (fun y0 => met_X3_placeOf K y0 a2) q2941 q105 q2938 q2940 (zq qs49) hd_X3_placeOf (by decide) (by decide) rfl (by simp [zcat_rf, zcat_i, zcat_j, zcat_f, zcat_d]) (fun z hz => by cases hz) dX3_stepsTo_15 (fun r3 => ?_)
    show zS _ 18 _ [.int r3] _
    refine zs_if_ge hE 27 (by decide) dX3_stepsTo_18 ?_ ?_
    · refine zs_aload_n hE 0 rfl rfl dX3_stepsTo_27 ?_
      refine zs_iload_n hE 2 rfl rfl dX3_stepsTo_28 ?_
      refine zs_callV hE (As := [.int a2]) (encA := encI) (ci := 35) rfl (fun y0 => met_X3_placeOf K y0 a2) q2941 q105 q2938 q2940 (zq qs49) hd_X3_placeOf (by decide) (by decide) rfl (by simp [zcat_rf, zcat_i, zcat_j, zcat_f, zcat_d]) (fun z hz => by cases hz) dX3_stepsTo_29 (fun r4 => ?_)
      show zS _ 32 _ [.int r4] _
      refine zs_aload_n hE 0 rfl rfl dX3_stepsTo_32 ?_
      refine zs_iload_n hE 1 rfl rfl dX3_stepsTo_33 ?_
      refine zs_callV hE (As := [.int a1]) (encA := encI) (ci := 35) rfl (fun y0 => met_X3_placeOf K y0 a1) q2941 q105 q2938 q2940 (zq qs49) hd_X3_placeOf (by decide) (by decide) rfl (by simp [zcat_rf, zcat_i, zcat_j, zcat_f, zcat_d]) (fun z hz => by cases hz) dX3_stepsTo_34 (fun r5 => ?_)
      show zS _ 37 _ [.int r5, .int r4] _
      refine zs_isub hE dX3_stepsTo_37 ?_
      refine zs_aload_n hE 0 rfl rfl dX3_stepsTo_38 ?_
      refine zs_getR hE (ci := 35) (k := 0) rfl (by decide) in_X3 (Or.inl q2829) (Or.inl rfl) dX3_stepsTo_39 (fun v6 => ?_)
      refine zs_iconst hE (v := (1 : Int32)) (by decide) dX3_stepsTo_42 ?_
      refine zs_ald hE dX3_stepsTo_43 (fun v7 => ?_)
      refine zs_iadd hE dX3_stepsTo_44 ?_
      refine zs_aload_n hE 0 rfl rfl dX3_stepsTo_45 ?_
      refine zs_getR hE (ci := 35) (k := 0) rfl (by decide) in_X3 (Or.inl q2829) (Or.inl rfl) dX3_stepsTo_46 (fun v8 => ?_)
      refine zs_iconst hE (v := (1 : Int32)) (by decide) dX3_stepsTo_49 ?_
      refine zs_ald hE dX3_stepsTo_50 (fun v9 => ?_)
      refine zs_irem hE dX3_stepsTo_51 ?_
      exact zs_iret hE dX3_stepsTo_52
    · refine zs_sub [0] rfl ?_
      exact sm_X3_stepsTo_J21 hE this
theorem hd_X3_stepsTo : (yX3_stepsTo).cls ≠ "java/lang/invoke/MethodHandle" ∧ (yX3_stepsTo).cls ≠ "java/lang/invoke/VarHandle" ∧ (parseMethodDescriptor (yX3_stepsTo).desc).map (fun d => d.parameters.length) = some 2 := by decide +kernel
theorem met_X3_stepsTo (K : ZK) (this : Nat) (a1 : Int32) (a2 : Int32) : zMeth K yX3_stepsTo (zws yX3_stepsTo cX3_stepsTo 3 (Option.some Jvm.ClassFile.FieldType.int)) 3 144 [.ref this, .int a1, .int a2] encI (s_X3_stepsTo K this a1 a2) :=
  fun l G hl hK => zmet_of hl hK (by decide +kernel) rfl rfl (by simp [zsl_nil, zsl_rf, zsl_r, zsl_i, zsl_j, zsl_f, zsl_d]) (fun x hE => by simp only [zla_nil, zla_rf, zla_r, zla_i, zla_j, zla_f, zla_d, Nat.reduceAdd]; exact sm_X3_stepsTo hE this a1 a2)
theorem sm_X3_steps {x : ZX Int32} {K : ZK} (hE : zE x K cX3_steps RX3 "steps" 3 4 166 encI (Option.some Jvm.ClassFile.FieldType.int) []) (this : Nat) (a1 : Int32) (a2 : Int32) : zS x 0 [(0, va_rf (some this)), (1, .int a1), (2, .int a2)] [] (s_X3_steps K this a1 a2) := by
  unfold s_X3_steps
  refine zs_aload_n hE 0 rfl rfl dX3_steps_0 ?_
  refine zs_iload_n hE 1 rfl rfl dX3_steps_1 ?_
  refine zs_iload_n hE 2 rfl rfl dX3_steps_2 ?_
  refine zs_callV hE (As := [.int a1, .int a2]) (encA := encI) (ci := 35) rfl (fun y0 => met_X3_stepsTo K y0 a1 a2) q3131 q105 q3128 q3130 (zq qs80) hd_X3_stepsTo (by decide) (by decide) rfl (by simp [zcat_rf, zcat_i, zcat_j, zcat_f, zcat_d]) (fun z hz => by cases hz) dX3_steps_3 (fun r1 => ?_)
  show zS _ 6 _ [.int r1] _
  exact zs_iret hE dX3_steps_6
theorem hd_X3_steps : (yX3_steps).cls ≠ "java/lang/invoke/MethodHandle" ∧ (yX3_steps).cls ≠ "java/lang/invoke/VarHandle" ∧ (parseMethodDescriptor (yX3_steps).desc).map (fun d => d.parameters.length) = some 2 := by decide +kernel
theorem met_X3_steps (K : ZK) (this : Nat) (a1 : Int32) (a2 : Int32) : zMeth K yX3_steps (zws yX3_steps cX3_steps 3 (Option.some Jvm.ClassFile.FieldType.int)) 4 166 [.ref this, .int a1, .int a2] encI (s_X3_steps K this a1 a2) :=
  fun l G hl hK => zmet_of hl hK (by decide +kernel) rfl rfl (by simp [zsl_nil, zsl_rf, zsl_r, zsl_i, zsl_j, zsl_f, zsl_d]) (fun x hE => by simp only [zla_nil, zla_rf, zla_r, zla_i, zla_j, zla_f, zla_d, Nat.reduceAdd]; exact sm_X3_steps hE this a1 a2)
theorem sm_X3_stepsAgain {x : ZX Int32} {K : ZK} (hE : zE x K cX3_stepsAgain RX3 "stepsAgain" 3 4 166 encI (Option.some Jvm.ClassFile.FieldType.int) []) (this : Nat) (a1 : Int32) (a2 : Int32) : zS x 0 [(0, va_rf (some this)), (1, .int a1), (2, .int a2)] [] (s_X3_stepsAgain K this a1 a2) := by
  unfold s_X3_stepsAgain
  refine zs_aload_n hE 0 rfl rfl dX3_stepsAgain_0 ?_
  refine zs_iload_n hE 1 rfl rfl dX3_stepsAgain_1 ?_
  refine zs_iload_n hE 2 rfl rfl dX3_stepsAgain_2 ?_
  refine zs_callV hE (As := [.int a1, .int a2]) (encA := encI) (ci := 35) rfl (fun y0 => met_X3_stepsTo K y0 a1 a2) q3131 q105 q3128 q3130 (zq qs80) hd_X3_stepsTo (by decide) (by decide) rfl (by simp [zcat_rf, zcat_i, zcat_j, zcat_f, zcat_d]) (fun z hz => by cases hz) dX3_stepsAgain_3 (fun r1 => ?_)
  show zS _ 6 _ [.int r1] _
  exact zs_iret hE dX3_stepsAgain_6
theorem hd_X3_stepsAgain : (yX3_stepsAgain).cls ≠ "java/lang/invoke/MethodHandle" ∧ (yX3_stepsAgain).cls ≠ "java/lang/invoke/VarHandle" ∧ (parseMethodDescriptor (yX3_stepsAgain).desc).map (fun d => d.parameters.length) = some 2 := by decide +kernel
theorem met_X3_stepsAgain (K : ZK) (this : Nat) (a1 : Int32) (a2 : Int32) : zMeth K yX3_stepsAgain (zws yX3_stepsAgain cX3_stepsAgain 3 (Option.some Jvm.ClassFile.FieldType.int)) 4 166 [.ref this, .int a1, .int a2] encI (s_X3_stepsAgain K this a1 a2) :=
  fun l G hl hK => zmet_of hl hK (by decide +kernel) rfl rfl (by simp [zsl_nil, zsl_rf, zsl_r, zsl_i, zsl_j, zsl_f, zsl_d]) (fun x hE => by simp only [zla_nil, zla_rf, zla_r, zla_i, zla_j, zla_f, zla_d, Nat.reduceAdd]; exact sm_X3_stepsAgain hE this a1 a2)
theorem sm_X3_isInRing_J13 {x : ZX Int32} {K : ZK} (hE : zE x K cX3_isInRing RX3 "isInRing" 2 3 144 encI (Option.some Jvm.ClassFile.FieldType.boolean) []) (x0 : Nat) (x1 : Int32) (t0 : Int32) (t1 : Nat) : zS x 13 [(0, va_rf (some x0)), (1, .int x1)] [.int t0, va_rf (some t1)] (s_X3_isInRing_J13 K x0 x1 t0 t1) := by
  unfold s_X3_isInRing_J13
  refine zs_putI hE (ci := 35) (k := 5) rfl (by decide) in_X3 (Or.inl q2834) (Or.inl rfl) (Or.inl rfl) (fun h => nomatch h) rfl dX3_isInRing_13 ?_
  refine zs_aload_n hE 0 rfl rfl dX3_isInRing_16 ?_
  refine zs_getI hE (ci := 35) (k := 5) rfl (by decide) in_X3 (Or.inl q2834) (Or.inl rfl) dX3_isInRing_17 (fun v2 => ?_)
  refine zs_if_ne hE 35 (by decide) dX3_isInRing_20 ?_ ?_
  · refine zs_aload_n hE 0 rfl rfl dX3_isInRing_23 ?_
    refine zs_iload_n hE 1 rfl rfl dX3_isInRing_24 ?_
    refine zs_callV hE (As := [.int x1]) (encA := encI) (ci := 35) rfl (fun y0 => met_X3_placeOf K y0 x1) q2941 q105 q2938 q2940 (zq qs49) hd_X3_placeOf (by decide) (by decide) rfl (by simp [zcat_rf, zcat_i, zcat_j, zcat_f, zcat_d]) (fun z hz => by cases hz) dX3_isInRing_25 (fun r3 => ?_)
    show zS _ 28 _ [.int r3] _
    refine zs_if_lt hE 35 (by decide) dX3_isInRing_28 ?_ ?_
    · refine zs_iconst hE (v := (0 : Int32)) (by decide) dX3_isInRing_35 ?_
      exact zs_zret hE rfl dX3_isInRing_36
    · refine zs_iconst hE (v := (1 : Int32)) (by decide) dX3_isInRing_31 ?_
      refine zs_goto hE 36 (by decide) dX3_isInRing_32 ?_
      exact zs_zret hE rfl dX3_isInRing_36
  · refine zs_iconst hE (v := (0 : Int32)) (by decide) dX3_isInRing_35 ?_
    exact zs_zret hE rfl dX3_isInRing_36
theorem sm_X3_isInRing {x : ZX Int32} {K : ZK} (hE : zE x K cX3_isInRing RX3 "isInRing" 2 3 144 encI (Option.some Jvm.ClassFile.FieldType.boolean) []) (this : Nat) (a1 : Int32) : zS x 0 [(0, va_rf (some this)), (1, .int a1)] [] (s_X3_isInRing K this a1) := by
  unfold s_X3_isInRing
  refine zs_aload_n hE 0 rfl rfl dX3_isInRing_0 ?_
  refine zs_iload_n hE 1 rfl rfl dX3_isInRing_1 ?_
  refine zs_callS hE (As := [.int a1]) (encA := encI) (met_X3_isAddress K a1) q2930 q105 q2928 q2929 hd_X3_isAddress (by decide) (by decide) rfl (by simp [zcat_rf, zcat_i, zcat_j, zcat_f, zcat_d]) (fun z hz => by cases hz) dX3_isInRing_2 (fun r1 => ?_)
  show zS _ 5 _ [.int r1, va_rf (some this)] _
  refine zs_if_eq hE 12 (by decide) dX3_isInRing_5 ?_ ?_
  · refine zs_iconst hE (v := (1 : Int32)) (by decide) dX3_isInRing_12 ?_
    exact sm_X3_isInRing_J13 hE this a1 (1 : Int32) this
  · refine zs_iconst hE (v := (0 : Int32)) (by decide) dX3_isInRing_8 ?_
    refine zs_goto hE 13 (by decide) dX3_isInRing_9 ?_
    exact sm_X3_isInRing_J13 hE this a1 (0 : Int32) this
theorem hd_X3_isInRing : (yX3_isInRing).cls ≠ "java/lang/invoke/MethodHandle" ∧ (yX3_isInRing).cls ≠ "java/lang/invoke/VarHandle" ∧ (parseMethodDescriptor (yX3_isInRing).desc).map (fun d => d.parameters.length) = some 1 := by decide +kernel
theorem met_X3_isInRing (K : ZK) (this : Nat) (a1 : Int32) : zMeth K yX3_isInRing (zws yX3_isInRing cX3_isInRing 2 (Option.some Jvm.ClassFile.FieldType.boolean)) 3 144 [.ref this, .int a1] encI (s_X3_isInRing K this a1) :=
  fun l G hl hK => zmet_of hl hK (by decide +kernel) rfl rfl (by simp [zsl_nil, zsl_rf, zsl_r, zsl_i, zsl_j, zsl_f, zsl_d]) (fun x hE => by simp only [zla_nil, zla_rf, zla_r, zla_i, zla_j, zla_f, zla_d, Nat.reduceAdd]; exact sm_X3_isInRing hE this a1)
theorem sm_X3_canTake_J16 {x : ZX Int32} {K : ZK} (hE : zE x K cX3_canTake RX3 "canTake" 3 4 166 encI (Option.some Jvm.ClassFile.FieldType.boolean) []) (x0 : Nat) (x2 : Int32) (t0 : Int32) (t1 : Nat) : zS x 16 [(0, va_rf (some x0)), (2, .int x2)] [.int t0, va_rf (some t1)] (s_X3_canTake_J16 K x0 x2 t0 t1) := by
  unfold s_X3_canTake_J16
  refine zs_putI hE (ci := 35) (k := 5) rfl (by decide) in_X3 (Or.inl q2834) (Or.inl rfl) (Or.inl rfl) (fun h => nomatch h) rfl dX3_canTake_16 ?_
  refine zs_iload_n hE 1 rfl rfl dX3_canTake_19 ?_
  refine zs_if_lt hE 46 (by decide) dX3_canTake_20 ?_ ?_
  · refine zs_iconst hE (v := (0 : Int32)) (by decide) dX3_canTake_46 ?_
    exact zs_zret hE rfl dX3_canTake_47
  · refine zs_aload_n hE 0 rfl rfl dX3_canTake_23 ?_
    refine zs_getR hE (ci := 35) (k := 0) rfl (by decide) in_X3 (Or.inl q2829) (Or.inl rfl) dX3_canTake_24 (fun v2 => ?_)
    refine zs_bipush hE (v := (18 : Int32)) (by decide) dX3_canTake_27 ?_
    refine zs_ald hE dX3_canTake_29 (fun v3 => ?_)
    refine zs_iconst hE (v := (1 : Int32)) (by decide) dX3_canTake_30 ?_
    refine zs_icmp_ne hE 46 (by decide) dX3_canTake_31 ?_ ?_
    · refine zs_aload_n hE 0 rfl rfl dX3_canTake_34 ?_
      refine zs_iload_n hE 1 rfl rfl dX3_canTake_35 ?_
      refine zs_callV hE (As := [.int x2]) (encA := encI) (ci := 35) rfl (fun y0 => met_X3_takes K y0 x2) q3068 q105 q3065 q3067 (zq qs73) hd_X3_takes (by decide) (by decide) rfl (by simp [zcat_rf, zcat_i, zcat_j, zcat_f, zcat_d]) (fun z hz => by cases hz) dX3_canTake_36 (fun r4 => ?_)
      show zS _ 39 _ [.int r4] _
      refine zs_if_eq hE 46 (by decide) dX3_canTake_39 ?_ ?_
      · refine zs_iconst hE (v := (0 : Int32)) (by decide) dX3_canTake_46 ?_
        exact zs_zret hE rfl dX3_canTake_47
      · refine zs_iconst hE (v := (1 : Int32)) (by decide) dX3_canTake_42 ?_
        refine zs_goto hE 47 (by decide) dX3_canTake_43 ?_
        exact zs_zret hE rfl dX3_canTake_47
    · refine zs_iconst hE (v := (0 : Int32)) (by decide) dX3_canTake_46 ?_
      exact zs_zret hE rfl dX3_canTake_47
theorem sm_X3_canTake {x : ZX Int32} {K : ZK} (hE : zE x K cX3_canTake RX3 "canTake" 3 4 166 encI (Option.some Jvm.ClassFile.FieldType.boolean) []) (this : Nat) (a1 : Int32) : zS x 0 [(0, va_rf (some this)), (1, .int a1)] [] (s_X3_canTake K this a1) := by
  unfold s_X3_canTake
  refine zs_aload_n hE 0 rfl rfl dX3_canTake_0 ?_
  refine zs_iload_n hE 1 rfl rfl dX3_canTake_1 ?_
  refine zs_callV hE (As := [.int a1]) (encA := encI) (ci := 35) rfl (fun y0 => met_X3_placeOf K y0 a1) q2941 q105 q2938 q2940 (zq qs49) hd_X3_placeOf (by decide) (by decide) rfl (by simp [zcat_rf, zcat_i, zcat_j, zcat_f, zcat_d]) (fun z hz => by cases hz) dX3_canTake_2 (fun r1 => ?_)
  show zS _ 5 _ [.int r1] _
  refine zs_istore_n hE (i := 2) (q := 2) rfl (by decide) (rfl) (lv' := [(0, va_rf (some this)), (1, .int a1)]) rfl dX3_canTake_5 ?_
  refine zs_aload_n hE 1 rfl rfl dX3_canTake_6 ?_
  refine zs_iload_n hE 0 rfl rfl dX3_canTake_7 ?_
  refine zs_if_ge hE 15 (by decide) dX3_canTake_8 ?_ ?_
  · refine zs_iconst hE (v := (0 : Int32)) (by decide) dX3_canTake_15 ?_
    refine zs_sub [1, 0] rfl ?_
    exact sm_X3_canTake_J16 hE this r1 (0 : Int32) this
  · refine zs_iconst hE (v := (1 : Int32)) (by decide) dX3_canTake_11 ?_
    refine zs_goto hE 16 (by decide) dX3_canTake_12 ?_
    refine zs_sub [1, 0] rfl ?_
    exact sm_X3_canTake_J16 hE this r1 (1 : Int32) this
theorem hd_X3_canTake : (yX3_canTake).cls ≠ "java/lang/invoke/MethodHandle" ∧ (yX3_canTake).cls ≠ "java/lang/invoke/VarHandle" ∧ (parseMethodDescriptor (yX3_canTake).desc).map (fun d => d.parameters.length) = some 1 := by decide +kernel
theorem met_X3_canTake (K : ZK) (this : Nat) (a1 : Int32) : zMeth K yX3_canTake (zws yX3_canTake cX3_canTake 3 (Option.some Jvm.ClassFile.FieldType.boolean)) 4 166 [.ref this, .int a1] encI (s_X3_canTake K this a1) :=
  fun l G hl hK => zmet_of hl hK (by decide +kernel) rfl rfl (by simp [zsl_nil, zsl_rf, zsl_r, zsl_i, zsl_j, zsl_f, zsl_d]) (fun x hE => by simp only [zla_nil, zla_rf, zla_r, zla_i, zla_j, zla_f, zla_d, Nat.reduceAdd]; exact sm_X3_canTake hE this a1)
theorem sm_X3_whoTakes_J80 {x : ZX Int32} {K : ZK} (hE : zE x K cX3_whoTakes RX3 "whoTakes" 4 4 166 encI (Option.some Jvm.ClassFile.FieldType.int) []) (x0 : Nat) : zS x 80 [(0, va_rf (some x0))] [] (s_X3_whoTakes_J80 K x0) := by
  unfold s_X3_whoTakes_J80
  refine zs_aload_n hE 0 rfl rfl dX3_whoTakes_80 ?_
  refine zs_iconst hE (v := (1 : Int32)) (by decide) dX3_whoTakes_81 ?_
  refine zs_callV hE (As := [.int (1 : Int32)]) (encA := encI) (ci := 35) rfl (fun y0 => met_X3_no K y0 (1 : Int32)) q2953 q105 q2950 q2952 (zq qs52) hd_X3_no (by decide) (by decide) rfl (by simp [zcat_rf, zcat_i, zcat_j, zcat_f, zcat_d]) (fun z hz => by cases hz) dX3_whoTakes_82 (fun r8 => ?_)
  show zS _ 85 _ [.int r8] _
  exact zs_iret hE dX3_whoTakes_85
theorem sm_X3_whoTakes_B34 {x : ZX Int32} {K : ZK} (hE : zE x K cX3_whoTakes RX3 "whoTakes" 4 4 166 encI (Option.some Jvm.ClassFile.FieldType.int) []) (x0 : Nat) (x1 : Int32) (self34 : Int32 → ZP Int32) (hs34 : ∀ v : Int32, zS x 34 [(0, va_rf (some x0)), (1, .int x1), (2, .int v)] [] (self34 v)) (x2 : Int32) : zS x 34 [(0, va_rf (some x0)), (1, .int x1), (2, .int x2)] [] (s_X3_whoTakes_B34 K x0 x1 self34 x2) := by
  unfold s_X3_whoTakes_B34
  refine zs_iload_n hE 2 rfl rfl dX3_whoTakes_34 ?_
  refine zs_aload_n hE 0 rfl rfl dX3_whoTakes_35 ?_
  refine zs_getR hE (ci := 35) (k := 0) rfl (by decide) in_X3 (Or.inl q2829) (Or.inl rfl) dX3_whoTakes_36 (fun v6 => ?_)
  refine zs_iconst hE (v := (1 : Int32)) (by decide) dX3_whoTakes_39 ?_
  refine zs_ald hE dX3_whoTakes_40 (fun v7 => ?_)
  refine zs_icmp_gt hE 80 (by decide) dX3_whoTakes_41 ?_ ?_
  · refine zs_sub [0] rfl ?_
    exact sm_X3_whoTakes_J80 hE x0
  · refine zs_iload_n hE 1 rfl rfl dX3_whoTakes_44 ?_
    refine zs_if_lt hE 80 (by decide) dX3_whoTakes_45 ?_ ?_
    · refine zs_sub [0] rfl ?_
      exact sm_X3_whoTakes_J80 hE x0
    · refine zs_iload_n hE 1 rfl rfl dX3_whoTakes_48 ?_
      refine zs_iload_n hE 2 rfl rfl dX3_whoTakes_49 ?_
      refine zs_iadd hE dX3_whoTakes_50 ?_
      refine zs_aload_n hE 0 rfl rfl dX3_whoTakes_51 ?_
      refine zs_getR hE (ci := 35) (k := 0) rfl (by decide) in_X3 (Or.inl q2829) (Or.inl rfl) dX3_whoTakes_52 (fun v9 => ?_)
      refine zs_iconst hE (v := (1 : Int32)) (by decide) dX3_whoTakes_55 ?_
      refine zs_ald hE dX3_whoTakes_56 (fun v10 => ?_)
      refine zs_irem hE dX3_whoTakes_57 ?_
      refine zs_istore_n hE (i := 3) (q := 3) rfl (by decide) (rfl) (lv' := [(0, va_rf (some x0)), (1, .int x1), (2, .int x2)]) rfl dX3_whoTakes_58 ?_
      refine zs_aload_n hE 1 rfl rfl dX3_whoTakes_59 ?_
      refine zs_iload_n hE 0 rfl rfl dX3_whoTakes_60 ?_
      refine zs_callV hE (As := [.int ((x1 + x2) - (x1 + x2) / v10 * v10)]) (encA := encI) (ci := 35) rfl (fun y0 => met_X3_takes K y0 ((x1 + x2) - (x1 + x2) / v10 * v10)) q3068 q105 q3065 q3067 (zq qs73) hd_X3_takes (by decide) (by decide) rfl (by simp [zcat_rf, zcat_i, zcat_j, zcat_f, zcat_d]) (fun z hz => by cases hz) dX3_whoTakes_61 (fun r11 => ?_)
      show zS _ 64 _ [.int r11] _
      refine zs_if_eq hE 74 (by decide) dX3_whoTakes_64 ?_ ?_
      · refine zs_iinc hE 3 (v := (1 : Int32)) rfl (by decide) (by decide) (rfl) (lv' := [(3, .int ((x1 + x2) - (x1 + x2) / v10 * v10)), (0, va_rf (some x0)), (1, .int x1)]) rfl dX3_whoTakes_74 ?_
        refine zs_goto hE 34 (by decide) dX3_whoTakes_77 ?_
        refine zs_sub [2, 3, 0] rfl ?_
        exact hs34 (x2 + (1 : Int32))
      · refine zs_aload_n hE 1 rfl rfl dX3_whoTakes_67 ?_
        refine zs_iload_n hE 0 rfl rfl dX3_whoTakes_68 ?_
        refine zs_iconst hE (v := (0 : Int32)) (by decide) dX3_whoTakes_69 ?_
        refine zs_callV hE (As := [.int ((x1 + x2) - (x1 + x2) / v10 * v10), .int (0 : Int32)]) (encA := encI) (ci := 35) rfl (fun y0 => met_X3_sv K y0 ((x1 + x2) - (x1 + x2) / v10 * v10) (0 : Int32)) q2945 q105 q2942 q2944 (zq qs50) hd_X3_sv (by decide) (by decide) rfl (by simp [zcat_rf, zcat_i, zcat_j, zcat_f, zcat_d]) (fun z hz => by cases hz) dX3_whoTakes_70 (fun r12 => ?_)
        show zS _ 73 _ [.int r12] _
        exact zs_iret hE dX3_whoTakes_73
theorem sm_X3_whoTakes_L34 {x : ZX Int32} {K : ZK} (hE : zE x K cX3_whoTakes RX3 "whoTakes" 4 4 166 encI (Option.some Jvm.ClassFile.FieldType.int) []) (x0 : Nat) (x1 : Int32) (v : Int32) : zS x 34 [(0, va_rf (some x0)), (1, .int x1), (2, .int v)] [] (s_X3_whoTakes_L34 K x0 x1 v) := by
  unfold s_X3_whoTakes_L34
  exact zs_loop (lvf := fun v => [(0, va_rf (some x0)), (1, .int x1), (2, .int v)]) (fun self34 hs34 v => sm_X3_whoTakes_B34 hE x0 x1 self34 hs34 v) v
theorem sm_X3_whoTakes {x : ZX Int32} {K : ZK} (hE : zE x K cX3_whoTakes RX3 "whoTakes" 4 4 166 encI (Option.some Jvm.ClassFile.FieldType.int) []) (this : Nat) : zS x 0 [(0, va_rf (some this))] [] (s_X3_whoTakes K this) := by
  unfold s_X3_whoTakes
  refine zs_aload_n hE 0 rfl rfl dX3_whoTakes_0 ?_
  refine zs_iconst hE (v := (0 : Int32)) (by decide) dX3_whoTakes_1 ?_
  refine zs_putI hE (ci := 35) (k := 5) rfl (by decide) in_X3 (Or.inl q2834) (Or.inl rfl) (Or.inl rfl) (fun h => nomatch h) rfl dX3_whoTakes_2 ?_
  refine zs_aload_n hE 0 rfl rfl dX3_whoTakes_5 ?_
  refine zs_getR hE (ci := 35) (k := 0) rfl (by decide) in_X3 (Or.inl q2829) (Or.inl rfl) dX3_whoTakes_6 (fun v1 => ?_)
  refine zs_bipush hE (v := (18 : Int32)) (by decide) dX3_whoTakes_9 ?_
  refine zs_ald hE dX3_whoTakes_11 (fun v2 => ?_)
  refine zs_iconst hE (v := (1 : Int32)) (by decide) dX3_whoTakes_12 ?_
  refine zs_icmp_ne hE 30 (by decide) dX3_whoTakes_13 ?_ ?_
  · refine zs_aload_n hE 0 rfl rfl dX3_whoTakes_16 ?_
    refine zs_aload_n hE 0 rfl rfl dX3_whoTakes_17 ?_
    refine zs_getR hE (ci := 35) (k := 0) rfl (by decide) in_X3 (Or.inl q2829) (Or.inl rfl) dX3_whoTakes_18 (fun v3 => ?_)
    refine zs_bipush hE (v := (19 : Int32)) (by decide) dX3_whoTakes_21 ?_
    refine zs_ald hE dX3_whoTakes_23 (fun v4 => ?_)
    refine zs_callV hE (As := [.int v4]) (encA := encI) (ci := 35) rfl (fun y0 => met_X3_placeOf K y0 v4) q2941 q105 q2938 q2940 (zq qs49) hd_X3_placeOf (by decide) (by decide) rfl (by simp [zcat_rf, zcat_i, zcat_j, zcat_f, zcat_d]) (fun z hz => by cases hz) dX3_whoTakes_24 (fun r5 => ?_)
    show zS _ 27 _ [.int r5] _
    refine zs_goto hE 31 (by decide) dX3_whoTakes_27 ?_
    refine zs_istore_n hE (i := 1) (q := 1) rfl (by decide) (zcat_rf (some this)) (lv' := [(0, va_rf (some this))]) rfl dX3_whoTakes_31 ?_
    refine zs_iconst hE (v := (1 : Int32)) (by decide) dX3_whoTakes_32 ?_
    refine zs_istore_n hE (i := 2) (q := 2) rfl (by decide) (rfl) (lv' := [(1, .int r5), (0, va_rf (some this))]) rfl dX3_whoTakes_33 ?_
    refine zs_sub [2, 1, 0] rfl ?_
    exact sm_X3_whoTakes_L34 hE this r5 (1 : Int32)
  · refine zs_iconst hE (v := (-1 : Int32)) (by decide) dX3_whoTakes_30 ?_
    refine zs_istore_n hE (i := 1) (q := 1) rfl (by decide) (zcat_rf (some this)) (lv' := [(0, va_rf (some this))]) rfl dX3_whoTakes_31 ?_
    refine zs_iconst hE (v := (1 : Int32)) (by decide) dX3_whoTakes_32 ?_
    refine zs_istore_n hE (i := 2) (q := 2) rfl (by decide) (rfl) (lv' := [(1, .int (-1 : Int32)), (0, va_rf (some this))]) rfl dX3_whoTakes_33 ?_
    refine zs_sub [2, 1, 0] rfl ?_
    exact sm_X3_whoTakes_L34 hE this (-1 : Int32) (1 : Int32)
theorem hd_X3_whoTakes : (yX3_whoTakes).cls ≠ "java/lang/invoke/MethodHandle" ∧ (yX3_whoTakes).cls ≠ "java/lang/invoke/VarHandle" ∧ (parseMethodDescriptor (yX3_whoTakes).desc).map (fun d => d.parameters.length) = some 0 := by decide +kernel
theorem met_X3_whoTakes (K : ZK) (this : Nat) : zMeth K yX3_whoTakes (zws yX3_whoTakes cX3_whoTakes 4 (Option.some Jvm.ClassFile.FieldType.int)) 4 166 [.ref this] encI (s_X3_whoTakes K this) :=
  fun l G hl hK => zmet_of hl hK (by decide +kernel) rfl rfl (by simp [zsl_nil, zsl_rf, zsl_r, zsl_i, zsl_j, zsl_f, zsl_d]) (fun x hE => by simp only [zla_nil, zla_rf, zla_r, zla_i, zla_j, zla_f, zla_d, Nat.reduceAdd]; exact sm_X3_whoTakes hE this)
theorem sm_X3_isGot {x : ZX Int32} {K : ZK} (hE : zE x K cX3_isGot RX3 "isGot" 2 2 121 encI (Option.some Jvm.ClassFile.FieldType.boolean) []) (this : Nat) (a1 : Int32) : zS x 0 [(0, va_rf (some this)), (1, .int a1)] [] (s_X3_isGot K this a1) := by
  unfold s_X3_isGot
  refine zs_aload_n hE 0 rfl rfl dX3_isGot_0 ?_
  refine zs_iload_n hE 1 rfl rfl dX3_isGot_1 ?_
  refine zs_callV hE (As := [.int a1]) (encA := encI) (ci := 35) rfl (fun y0 => met_X3_isRound K y0 a1) q3099 q105 q3096 q3098 (zq qs76) hd_X3_isRound (by decide) (by decide) rfl (by simp [zcat_rf, zcat_i, zcat_j, zcat_f, zcat_d]) (fun z hz => by cases hz) dX3_isGot_2 (fun r1 => ?_)
  show zS _ 5 _ [.int r1] _
  refine zs_if_eq hE 23 (by decide) dX3_isGot_5 ?_ ?_
  · refine zs_iconst hE (v := (0 : Int32)) (by decide) dX3_isGot_23 ?_
    exact zs_zret hE rfl dX3_isGot_24
  · refine zs_aload_n hE 0 rfl rfl dX3_isGot_8 ?_
    refine zs_getR hE (ci := 35) (k := 0) rfl (by decide) in_X3 (Or.inl q2829) (Or.inl rfl) dX3_isGot_9 (fun v2 => ?_)
    refine zs_bipush hE (v := (30 : Int32)) (by decide) dX3_isGot_12 ?_
    refine zs_ald hE dX3_isGot_14 (fun v3 => ?_)
    refine zs_iconst hE (v := (1 : Int32)) (by decide) dX3_isGot_15 ?_
    refine zs_icmp_ne hE 23 (by decide) dX3_isGot_16 ?_ ?_
    · refine zs_iconst hE (v := (1 : Int32)) (by decide) dX3_isGot_19 ?_
      refine zs_goto hE 24 (by decide) dX3_isGot_20 ?_
      exact zs_zret hE rfl dX3_isGot_24
    · refine zs_iconst hE (v := (0 : Int32)) (by decide) dX3_isGot_23 ?_
      exact zs_zret hE rfl dX3_isGot_24
theorem hd_X3_isGot : (yX3_isGot).cls ≠ "java/lang/invoke/MethodHandle" ∧ (yX3_isGot).cls ≠ "java/lang/invoke/VarHandle" ∧ (parseMethodDescriptor (yX3_isGot).desc).map (fun d => d.parameters.length) = some 1 := by decide +kernel
theorem met_X3_isGot (K : ZK) (this : Nat) (a1 : Int32) : zMeth K yX3_isGot (zws yX3_isGot cX3_isGot 2 (Option.some Jvm.ClassFile.FieldType.boolean)) 2 121 [.ref this, .int a1] encI (s_X3_isGot K this a1) :=
  fun l G hl hK => zmet_of hl hK (by decide +kernel) rfl rfl (by simp [zsl_nil, zsl_rf, zsl_r, zsl_i, zsl_j, zsl_f, zsl_d]) (fun x hE => by simp only [zla_nil, zla_rf, zla_r, zla_i, zla_j, zla_f, zla_d, Nat.reduceAdd]; exact sm_X3_isGot hE this a1)
theorem sm_X3_receivedIn_J113 {x : ZX Int32} {K : ZK} (hE : zE x K cX3_receivedIn RX3 "receivedIn" 5 6 212 encI (Option.some Jvm.ClassFile.FieldType.int) []) (x0 : Nat) (x2 : Int32) (x3 : Int32) : zS x 113 [(0, va_rf (some x0)), (2, .int x2), (3, .int x3)] [] (s_X3_receivedIn_J113 K x0 x2 x3) := by
  unfold s_X3_receivedIn_J113
  refine zs_aload_n hE 0 rfl rfl dX3_receivedIn_113 ?_
  refine zs_getR hE (ci := 35) (k := 2) rfl (by decide) in_X3 (Or.inl q2831) (Or.inl rfl) dX3_receivedIn_114 (fun v6 => ?_)
  refine zs_iconst hE (v := (0 : Int32)) (by decide) dX3_receivedIn_117 ?_
  refine zs_aload_n hE 0 rfl rfl dX3_receivedIn_118 ?_
  refine zs_getR hE (ci := 35) (k := 0) rfl (by decide) in_X3 (Or.inl q2829) (Or.inl rfl) dX3_receivedIn_119 (fun v7 => ?_)
  refine zs_iconst hE (v := (0 : Int32)) (by decide) dX3_receivedIn_122 ?_
  refine zs_callS hE (As := [va_rf v6, .int (0 : Int32), va_rf v7, .int (0 : Int32)]) (encA := encV) (met_X3_copies K v6 (0 : Int32) v7 (0 : Int32)) q2923 q105 q2921 q2922 hd_X3_copies (by decide) (by decide) rfl (by simp [zcat_rf, zcat_i, zcat_j, zcat_f, zcat_d]) (fun z hz => by cases hz) dX3_receivedIn_123 (fun _ => ?_)
  show zS _ 126 _ [] _
  refine zs_iload_n hE 2 rfl rfl dX3_receivedIn_126 ?_
  refine zs_if_eq hE 134 (by decide) dX3_receivedIn_127 ?_ ?_
  · refine zs_aload_n hE 0 rfl rfl dX3_receivedIn_134 ?_
    refine zs_iconst hE (v := (1 : Int32)) (by decide) dX3_receivedIn_135 ?_
    refine zs_callV hE (As := [.int (1 : Int32)]) (encA := encI) (ci := 35) rfl (fun y0 => met_X3_no K y0 (1 : Int32)) q2953 q105 q2950 q2952 (zq qs52) hd_X3_no (by decide) (by decide) rfl (by simp [zcat_rf, zcat_i, zcat_j, zcat_f, zcat_d]) (fun z hz => by cases hz) dX3_receivedIn_136 (fun r8 => ?_)
    show zS _ 139 _ [.int r8] _
    exact zs_iret hE dX3_receivedIn_139
  · refine zs_iload_n hE 1 rfl rfl dX3_receivedIn_130 ?_
    refine zs_goto hE 139 (by decide) dX3_receivedIn_131 ?_
    exact zs_iret hE dX3_receivedIn_139
theorem sm_X3_receivedIn_J85 {x : ZX Int32} {K : ZK} (hE : zE x K cX3_receivedIn RX3 "receivedIn" 5 6 212 encI (Option.some Jvm.ClassFile.FieldType.int) []) (x0 : Nat) (x1 : Int32) (x2 : Int32) (t0 : Int32) (self52 : (Int32 × Int32) → ZP Int32) (hs52 : ∀ v : Int32 × Int32, zS x 52 [(0, va_rf (some x0)), (1, .int x1), (2, .int v.1), (3, .int v.2)] [] (self52 v)) : zS x 85 [(0, va_rf (some x0)), (1, .int x1), (2, .int x2)] [.int t0] (s_X3_receivedIn_J85 K x0 x1 x2 t0 self52) := by
  unfold s_X3_receivedIn_J85
  refine zs_istore hE (i := 4) (by decide) (trivial) (lv' := [(0, va_rf (some x0)), (1, .int x1), (2, .int x2)]) rfl dX3_receivedIn_85 ?_
  refine zs_aload_n hE 1 rfl rfl dX3_receivedIn_87 ?_
  refine zs_callV hE (As := []) (encA := encI) (ci := 35) rfl (fun y0 => met_X3_goesTick K y0) q3056 q105 q3053 q3055 (zq qs70) hd_X3_goesTick (by decide) (by decide) rfl (by simp [zcat_rf, zcat_i, zcat_j, zcat_f, zcat_d]) (fun z hz => by cases hz) dX3_receivedIn_88 (fun r13 => ?_)
  show zS _ 91 _ [.int r13] _
  refine zs_iconst hE (v := (1 : Int32)) (by decide) dX3_receivedIn_91 ?_
  refine zs_icmp_ne hE 105 (by decide) dX3_receivedIn_92 ?_ ?_
  · refine zs_iload hE 0 rfl dX3_receivedIn_95 ?_
    refine zs_iload_n hE 2 rfl rfl dX3_receivedIn_97 ?_
    refine zs_icmp_ne hE 105 (by decide) dX3_receivedIn_98 ?_ ?_
    · refine zs_iconst hE (v := (1 : Int32)) (by decide) dX3_receivedIn_101 ?_
      refine zs_goto hE 106 (by decide) dX3_receivedIn_102 ?_
      refine zs_istore_n hE (i := 3) (q := 3) rfl (by decide) (rfl) (lv' := [(4, .int t0), (0, va_rf (some x0)), (1, .int x1), (2, .int x2)]) rfl dX3_receivedIn_106 ?_
      refine zs_iinc hE 4 (v := (1 : Int32)) rfl (by decide) (by decide) (rfl) (lv' := [(3, .int (1 : Int32)), (4, .int t0), (0, va_rf (some x0)), (1, .int x1)]) rfl dX3_receivedIn_107 ?_
      refine zs_goto hE 52 (by decide) dX3_receivedIn_110 ?_
      refine zs_sub [3, 4, 0, 1] rfl ?_
      exact hs52 (x2 + (1 : Int32), (1 : Int32))
    · refine zs_iconst hE (v := (0 : Int32)) (by decide) dX3_receivedIn_105 ?_
      refine zs_istore_n hE (i := 3) (q := 3) rfl (by decide) (rfl) (lv' := [(4, .int t0), (0, va_rf (some x0)), (1, .int x1), (2, .int x2)]) rfl dX3_receivedIn_106 ?_
      refine zs_iinc hE 4 (v := (1 : Int32)) rfl (by decide) (by decide) (rfl) (lv' := [(3, .int (0 : Int32)), (4, .int t0), (0, va_rf (some x0)), (1, .int x1)]) rfl dX3_receivedIn_107 ?_
      refine zs_goto hE 52 (by decide) dX3_receivedIn_110 ?_
      refine zs_sub [3, 4, 0, 1] rfl ?_
      exact hs52 (x2 + (1 : Int32), (0 : Int32))
  · refine zs_iconst hE (v := (0 : Int32)) (by decide) dX3_receivedIn_105 ?_
    refine zs_istore_n hE (i := 3) (q := 3) rfl (by decide) (rfl) (lv' := [(4, .int t0), (0, va_rf (some x0)), (1, .int x1), (2, .int x2)]) rfl dX3_receivedIn_106 ?_
    refine zs_iinc hE 4 (v := (1 : Int32)) rfl (by decide) (by decide) (rfl) (lv' := [(3, .int (0 : Int32)), (4, .int t0), (0, va_rf (some x0)), (1, .int x1)]) rfl dX3_receivedIn_107 ?_
    refine zs_goto hE 52 (by decide) dX3_receivedIn_110 ?_
    refine zs_sub [3, 4, 0, 1] rfl ?_
    exact hs52 (x2 + (1 : Int32), (0 : Int32))
theorem sm_X3_receivedIn_B52 {x : ZX Int32} {K : ZK} (hE : zE x K cX3_receivedIn RX3 "receivedIn" 5 6 212 encI (Option.some Jvm.ClassFile.FieldType.int) []) (x0 : Nat) (x1 : Int32) (self52 : (Int32 × Int32) → ZP Int32) (hs52 : ∀ v : Int32 × Int32, zS x 52 [(0, va_rf (some x0)), (1, .int x1), (2, .int v.1), (3, .int v.2)] [] (self52 v)) (x2 : Int32) (x3 : Int32) : zS x 52 [(0, va_rf (some x0)), (1, .int x1), (2, .int x2), (3, .int x3)] [] (s_X3_receivedIn_B52 K x0 x1 self52 x2 x3) := by
  unfold s_X3_receivedIn_B52
  refine zs_iload_n hE 2 rfl rfl dX3_receivedIn_52 ?_
  refine zs_sipush hE (v := (200 : Int32)) (by decide) dX3_receivedIn_53 ?_
  refine zs_icmp_ge hE 113 (by decide) dX3_receivedIn_56 ?_ ?_
  · refine zs_sub [0, 2, 3] rfl ?_
    exact sm_X3_receivedIn_J113 hE x0 x2 x3
  · refine zs_iload_n hE 3 rfl rfl dX3_receivedIn_59 ?_
    refine zs_if_ne hE 113 (by decide) dX3_receivedIn_60 ?_ ?_
    · refine zs_aload_n hE 0 rfl rfl dX3_receivedIn_63 ?_
      refine zs_getR hE (ci := 35) (k := 0) rfl (by decide) in_X3 (Or.inl q2829) (Or.inl rfl) dX3_receivedIn_64 (fun v9 => ?_)
      refine zs_bipush hE (v := (18 : Int32)) (by decide) dX3_receivedIn_67 ?_
      refine zs_ald hE dX3_receivedIn_69 (fun v10 => ?_)
      refine zs_iconst hE (v := (2 : Int32)) (by decide) dX3_receivedIn_70 ?_
      refine zs_icmp_ne hE 84 (by decide) dX3_receivedIn_71 ?_ ?_
      · refine zs_aload_n hE 0 rfl rfl dX3_receivedIn_74 ?_
        refine zs_getR hE (ci := 35) (k := 0) rfl (by decide) in_X3 (Or.inl q2829) (Or.inl rfl) dX3_receivedIn_75 (fun v11 => ?_)
        refine zs_bipush hE (v := (22 : Int32)) (by decide) dX3_receivedIn_78 ?_
        refine zs_ald hE dX3_receivedIn_80 (fun v12 => ?_)
        refine zs_goto hE 85 (by decide) dX3_receivedIn_81 ?_
        refine zs_sub [0, 1, 2] rfl ?_
        exact sm_X3_receivedIn_J85 hE x0 x1 x2 v12 self52 hs52
      · refine zs_iconst hE (v := (-1 : Int32)) (by decide) dX3_receivedIn_84 ?_
        refine zs_sub [0, 1, 2] rfl ?_
        exact sm_X3_receivedIn_J85 hE x0 x1 x2 (-1 : Int32) self52 hs52
    · refine zs_sub [0, 2, 3] rfl ?_
      exact sm_X3_receivedIn_J113 hE x0 x2 x3
theorem sm_X3_receivedIn_L52 {x : ZX Int32} {K : ZK} (hE : zE x K cX3_receivedIn RX3 "receivedIn" 5 6 212 encI (Option.some Jvm.ClassFile.FieldType.int) []) (x0 : Nat) (x1 : Int32) (v : Int32 × Int32) : zS x 52 [(0, va_rf (some x0)), (1, .int x1), (2, .int v.1), (3, .int v.2)] [] (s_X3_receivedIn_L52 K x0 x1 v) := by
  unfold s_X3_receivedIn_L52
  exact zs_loop (lvf := fun v => [(0, va_rf (some x0)), (1, .int x1), (2, .int v.1), (3, .int v.2)]) (fun self52 hs52 v => sm_X3_receivedIn_B52 hE x0 x1 self52 hs52 v.1 v.2) v
theorem sm_X3_receivedIn_J35 {x : ZX Int32} {K : ZK} (hE : zE x K cX3_receivedIn RX3 "receivedIn" 5 6 212 encI (Option.some Jvm.ClassFile.FieldType.int) []) (x0 : Nat) (x1 : Int32) : zS x 35 [(0, va_rf (some x0)), (1, .int x1)] [] (s_X3_receivedIn_J35 K x0 x1) := by
  unfold s_X3_receivedIn_J35
  refine zs_aload_n hE 0 rfl rfl dX3_receivedIn_35 ?_
  refine zs_getR hE (ci := 35) (k := 0) rfl (by decide) in_X3 (Or.inl q2829) (Or.inl rfl) dX3_receivedIn_36 (fun v4 => ?_)
  refine zs_iconst hE (v := (0 : Int32)) (by decide) dX3_receivedIn_39 ?_
  refine zs_aload_n hE 0 rfl rfl dX3_receivedIn_40 ?_
  refine zs_getR hE (ci := 35) (k := 2) rfl (by decide) in_X3 (Or.inl q2831) (Or.inl rfl) dX3_receivedIn_41 (fun v5 => ?_)
  refine zs_iconst hE (v := (0 : Int32)) (by decide) dX3_receivedIn_44 ?_
  refine zs_callS hE (As := [va_rf v4, .int (0 : Int32), va_rf v5, .int (0 : Int32)]) (encA := encV) (met_X3_copies K v4 (0 : Int32) v5 (0 : Int32)) q2923 q105 q2921 q2922 hd_X3_copies (by decide) (by decide) rfl (by simp [zcat_rf, zcat_i, zcat_j, zcat_f, zcat_d]) (fun z hz => by cases hz) dX3_receivedIn_45 (fun _ => ?_)
  show zS _ 48 _ [] _
  refine zs_iconst hE (v := (0 : Int32)) (by decide) dX3_receivedIn_48 ?_
  refine zs_istore_n hE (i := 2) (q := 2) rfl (by decide) (rfl) (lv' := [(0, va_rf (some x0)), (1, .int x1)]) rfl dX3_receivedIn_49 ?_
  refine zs_iconst hE (v := (0 : Int32)) (by decide) dX3_receivedIn_50 ?_
  refine zs_istore_n hE (i := 3) (q := 3) rfl (by decide) (rfl) (lv' := [(2, .int (0 : Int32)), (0, va_rf (some x0)), (1, .int x1)]) rfl dX3_receivedIn_51 ?_
  refine zs_sub [2, 3, 1, 0] rfl ?_
  exact sm_X3_receivedIn_L52 hE x0 x1 ((0 : Int32), (0 : Int32))
theorem sm_X3_receivedIn_J29 {x : ZX Int32} {K : ZK} (hE : zE x K cX3_receivedIn RX3 "receivedIn" 5 6 212 encI (Option.some Jvm.ClassFile.FieldType.int) []) (x0 : Nat) : zS x 29 [(0, va_rf (some x0))] [] (s_X3_receivedIn_J29 K x0) := by
  unfold s_X3_receivedIn_J29
  refine zs_aload_n hE 0 rfl rfl dX3_receivedIn_29 ?_
  refine zs_iconst hE (v := (1 : Int32)) (by decide) dX3_receivedIn_30 ?_
  refine zs_callV hE (As := [.int (1 : Int32)]) (encA := encI) (ci := 35) rfl (fun y0 => met_X3_no K y0 (1 : Int32)) q2953 q105 q2950 q2952 (zq qs52) hd_X3_no (by decide) (by decide) rfl (by simp [zcat_rf, zcat_i, zcat_j, zcat_f, zcat_d]) (fun z hz => by cases hz) dX3_receivedIn_31 (fun r14 => ?_)
  show zS _ 34 _ [.int r14] _
  exact zs_iret hE dX3_receivedIn_34
theorem sm_X3_receivedIn {x : ZX Int32} {K : ZK} (hE : zE x K cX3_receivedIn RX3 "receivedIn" 5 6 212 encI (Option.some Jvm.ClassFile.FieldType.int) []) (this : Nat) (a1 : Int32) : zS x 0 [(0, va_rf (some this)), (1, .int a1)] [] (s_X3_receivedIn K this a1) := by
  unfold s_X3_receivedIn
  refine zs_aload_n hE 0 rfl rfl dX3_receivedIn_0 ?_
  refine zs_iconst hE (v := (0 : Int32)) (by decide) dX3_receivedIn_1 ?_
  refine zs_putI hE (ci := 35) (k := 5) rfl (by decide) in_X3 (Or.inl q2834) (Or.inl rfl) (Or.inl rfl) (fun h => nomatch h) rfl dX3_receivedIn_2 ?_
  refine zs_aload_n hE 0 rfl rfl dX3_receivedIn_5 ?_
  refine zs_iload_n hE 1 rfl rfl dX3_receivedIn_6 ?_
  refine zs_callV hE (As := [.int a1]) (encA := encI) (ci := 35) rfl (fun y0 => met_X3_isGot K y0 a1) q3155 q105 q3152 q3154 (zq qs81) hd_X3_isGot (by decide) (by decide) rfl (by simp [zcat_rf, zcat_i, zcat_j, zcat_f, zcat_d]) (fun z hz => by cases hz) dX3_receivedIn_7 (fun r1 => ?_)
  show zS _ 10 _ [.int r1] _
  refine zs_if_ne hE 29 (by decide) dX3_receivedIn_10 ?_ ?_
  · refine zs_aload_n hE 0 rfl rfl dX3_receivedIn_13 ?_
    refine zs_iload_n hE 1 rfl rfl dX3_receivedIn_14 ?_
    refine zs_callV hE (As := [.int a1]) (encA := encI) (ci := 35) rfl (fun y0 => met_X3_isRound K y0 a1) q3099 q105 q3096 q3098 (zq qs76) hd_X3_isRound (by decide) (by decide) rfl (by simp [zcat_rf, zcat_i, zcat_j, zcat_f, zcat_d]) (fun z hz => by cases hz) dX3_receivedIn_15 (fun r2 => ?_)
    show zS _ 18 _ [.int r2] _
    refine zs_if_ne hE 35 (by decide) dX3_receivedIn_18 ?_ ?_
    · refine zs_aload_n hE 0 rfl rfl dX3_receivedIn_21 ?_
      refine zs_iload_n hE 1 rfl rfl dX3_receivedIn_22 ?_
      refine zs_callV hE (As := [.int a1]) (encA := encI) (ci := 35) rfl (fun y0 => met_X3_spot K y0 a1) q3103 q105 q3100 q3102 (zq qs77) hd_X3_spot (by decide) (by decide) rfl (by simp [zcat_rf, zcat_i, zcat_j, zcat_f, zcat_d]) (fun z hz => by cases hz) dX3_receivedIn_23 (fun r3 => ?_)
      show zS _ 26 _ [.int r3] _
      refine zs_if_ge hE 35 (by decide) dX3_receivedIn_26 ?_ ?_
      · exact sm_X3_receivedIn_J35 hE this a1
      · refine zs_sub [0] rfl ?_
        exact sm_X3_receivedIn_J29 hE this
    · exact sm_X3_receivedIn_J35 hE this a1
  · refine zs_sub [0] rfl ?_
    exact sm_X3_receivedIn_J29 hE this
theorem hd_X3_receivedIn : (yX3_receivedIn).cls ≠ "java/lang/invoke/MethodHandle" ∧ (yX3_receivedIn).cls ≠ "java/lang/invoke/VarHandle" ∧ (parseMethodDescriptor (yX3_receivedIn).desc).map (fun d => d.parameters.length) = some 1 := by decide +kernel
theorem met_X3_receivedIn (K : ZK) (this : Nat) (a1 : Int32) : zMeth K yX3_receivedIn (zws yX3_receivedIn cX3_receivedIn 5 (Option.some Jvm.ClassFile.FieldType.int)) 6 212 [.ref this, .int a1] encI (s_X3_receivedIn K this a1) :=
  fun l G hl hK => zmet_of hl hK (by decide +kernel) rfl rfl (by simp [zsl_nil, zsl_rf, zsl_r, zsl_i, zsl_j, zsl_f, zsl_d]) (fun x hE => by simp only [zla_nil, zla_rf, zla_r, zla_i, zla_j, zla_f, zla_d, Nat.reduceAdd]; exact sm_X3_receivedIn hE this a1)
theorem sm_X3_isTokenAt {x : ZX Int32} {K : ZK} (hE : zE x K cX3_isTokenAt RX3 "isTokenAt" 2 1 100 encI (Option.some Jvm.ClassFile.FieldType.boolean) []) (this : Nat) (a1 : Int32) : zS x 0 [(0, va_rf (some this)), (1, .int a1)] [] (s_X3_isTokenAt K this a1) := by
  unfold s_X3_isTokenAt
  refine zs_aload_n hE 0 rfl rfl dX3_isTokenAt_0 ?_
  refine zs_getR hE (ci := 35) (k := 0) rfl (by decide) in_X3 (Or.inl q2829) (Or.inl rfl) dX3_isTokenAt_1 (fun v1 => ?_)
  refine zs_bipush hE (v := (18 : Int32)) (by decide) dX3_isTokenAt_4 ?_
  refine zs_ald hE dX3_isTokenAt_6 (fun v2 => ?_)
  refine zs_iconst hE (v := (1 : Int32)) (by decide) dX3_isTokenAt_7 ?_
  refine zs_icmp_ne hE 26 (by decide) dX3_isTokenAt_8 ?_ ?_
  · refine zs_aload_n hE 0 rfl rfl dX3_isTokenAt_11 ?_
    refine zs_getR hE (ci := 35) (k := 0) rfl (by decide) in_X3 (Or.inl q2829) (Or.inl rfl) dX3_isTokenAt_12 (fun v3 => ?_)
    refine zs_bipush hE (v := (19 : Int32)) (by decide) dX3_isTokenAt_15 ?_
    refine zs_ald hE dX3_isTokenAt_17 (fun v4 => ?_)
    refine zs_iload_n hE 1 rfl rfl dX3_isTokenAt_18 ?_
    refine zs_icmp_ne hE 26 (by decide) dX3_isTokenAt_19 ?_ ?_
    · refine zs_iconst hE (v := (1 : Int32)) (by decide) dX3_isTokenAt_22 ?_
      refine zs_goto hE 27 (by decide) dX3_isTokenAt_23 ?_
      exact zs_zret hE rfl dX3_isTokenAt_27
    · refine zs_iconst hE (v := (0 : Int32)) (by decide) dX3_isTokenAt_26 ?_
      exact zs_zret hE rfl dX3_isTokenAt_27
  · refine zs_iconst hE (v := (0 : Int32)) (by decide) dX3_isTokenAt_26 ?_
    exact zs_zret hE rfl dX3_isTokenAt_27
theorem hd_X3_isTokenAt : (yX3_isTokenAt).cls ≠ "java/lang/invoke/MethodHandle" ∧ (yX3_isTokenAt).cls ≠ "java/lang/invoke/VarHandle" ∧ (parseMethodDescriptor (yX3_isTokenAt).desc).map (fun d => d.parameters.length) = some 1 := by decide +kernel
theorem met_X3_isTokenAt (K : ZK) (this : Nat) (a1 : Int32) : zMeth K yX3_isTokenAt (zws yX3_isTokenAt cX3_isTokenAt 2 (Option.some Jvm.ClassFile.FieldType.boolean)) 1 100 [.ref this, .int a1] encI (s_X3_isTokenAt K this a1) :=
  fun l G hl hK => zmet_of hl hK (by decide +kernel) rfl rfl (by simp [zsl_nil, zsl_rf, zsl_r, zsl_i, zsl_j, zsl_f, zsl_d]) (fun x hE => by simp only [zla_nil, zla_rf, zla_r, zla_i, zla_j, zla_f, zla_d, Nat.reduceAdd]; exact sm_X3_isTokenAt hE this a1)
theorem sm_X3_tokenIn_J61 {x : ZX Int32} {K : ZK} (hE : zE x K cX3_tokenIn RX3 "tokenIn" 5 6 212 encI (Option.some Jvm.ClassFile.FieldType.int) []) (x0 : Nat) (x1 : Int32) (x2 : Int32) : zS x 61 [(0, va_rf (some x0)), (1, .int x1), (2, .int x2)] [] (s_X3_tokenIn_J61 K x0 x1 x2) := by
  unfold s_X3_tokenIn_J61
  refine zs_aload_n hE 0 rfl rfl dX3_tokenIn_61 ?_
  refine zs_iload_n hE 1 rfl rfl dX3_tokenIn_62 ?_
  refine zs_callV hE (As := [.int x1]) (encA := encI) (ci := 35) rfl (fun y0 => met_X3_isTokenAt K y0 x1) q3163 q105 q3160 q3162 (zq qs82) hd_X3_isTokenAt (by decide) (by decide) rfl (by simp [zcat_rf, zcat_i, zcat_j, zcat_f, zcat_d]) (fun z hz => by cases hz) dX3_tokenIn_63 (fun r4 => ?_)
  show zS _ 66 _ [.int r4] _
  refine zs_istore hE (i := 4) (by decide) (trivial) (lv' := [(0, va_rf (some x0)), (1, .int x1), (2, .int x2)]) rfl dX3_tokenIn_66 ?_
  refine zs_aload_n hE 1 rfl rfl dX3_tokenIn_68 ?_
  refine zs_getR hE (ci := 35) (k := 2) rfl (by decide) in_X3 (Or.inl q2831) (Or.inl rfl) dX3_tokenIn_69 (fun v5 => ?_)
  refine zs_iconst hE (v := (0 : Int32)) (by decide) dX3_tokenIn_72 ?_
  refine zs_aload_n hE 1 rfl rfl dX3_tokenIn_73 ?_
  refine zs_getR hE (ci := 35) (k := 0) rfl (by decide) in_X3 (Or.inl q2829) (Or.inl rfl) dX3_tokenIn_74 (fun v6 => ?_)
  refine zs_iconst hE (v := (0 : Int32)) (by decide) dX3_tokenIn_77 ?_
  refine zs_callS hE (As := [va_rf v5, .int (0 : Int32), va_rf v6, .int (0 : Int32)]) (encA := encV) (met_X3_copies K v5 (0 : Int32) v6 (0 : Int32)) q2923 q105 q2921 q2922 hd_X3_copies (by decide) (by decide) rfl (by simp [zcat_rf, zcat_i, zcat_j, zcat_f, zcat_d]) (fun z hz => by cases hz) dX3_tokenIn_78 (fun _ => ?_)
  show zS _ 81 _ [] _
  refine zs_iload hE 0 rfl dX3_tokenIn_81 ?_
  refine zs_if_eq hE 90 (by decide) dX3_tokenIn_83 ?_ ?_
  · refine zs_aload_n hE 1 rfl rfl dX3_tokenIn_90 ?_
    refine zs_iconst hE (v := (2 : Int32)) (by decide) dX3_tokenIn_91 ?_
    refine zs_callV hE (As := [.int (2 : Int32)]) (encA := encI) (ci := 35) rfl (fun y0 => met_X3_no K y0 (2 : Int32)) q2953 q105 q2950 q2952 (zq qs52) hd_X3_no (by decide) (by decide) rfl (by simp [zcat_rf, zcat_i, zcat_j, zcat_f, zcat_d]) (fun z hz => by cases hz) dX3_tokenIn_92 (fun r7 => ?_)
    show zS _ 95 _ [.int r7] _
    exact zs_iret hE dX3_tokenIn_95
  · refine zs_iload_n hE 3 rfl rfl dX3_tokenIn_86 ?_
    refine zs_goto hE 95 (by decide) dX3_tokenIn_87 ?_
    exact zs_iret hE dX3_tokenIn_95
theorem sm_X3_tokenIn_B36 {x : ZX Int32} {K : ZK} (hE : zE x K cX3_tokenIn RX3 "tokenIn" 5 6 212 encI (Option.some Jvm.ClassFile.FieldType.int) []) (x0 : Nat) (x1 : Int32) (self36 : Int32 → ZP Int32) (hs36 : ∀ v : Int32, zS x 36 [(0, va_rf (some x0)), (1, .int x1), (2, .int v)] [] (self36 v)) (x2 : Int32) : zS x 36 [(0, va_rf (some x0)), (1, .int x1), (2, .int x2)] [] (s_X3_tokenIn_B36 K x0 x1 self36 x2) := by
  unfold s_X3_tokenIn_B36
  refine zs_iload_n hE 2 rfl rfl dX3_tokenIn_36 ?_
  refine zs_bipush hE (v := (100 : Int32)) (by decide) dX3_tokenIn_37 ?_
  refine zs_icmp_ge hE 61 (by decide) dX3_tokenIn_39 ?_ ?_
  · exact sm_X3_tokenIn_J61 hE x0 x1 x2
  · refine zs_aload_n hE 0 rfl rfl dX3_tokenIn_42 ?_
    refine zs_iload_n hE 1 rfl rfl dX3_tokenIn_43 ?_
    refine zs_callV hE (As := [.int x1]) (encA := encI) (ci := 35) rfl (fun y0 => met_X3_isTokenAt K y0 x1) q3163 q105 q3160 q3162 (zq qs82) hd_X3_isTokenAt (by decide) (by decide) rfl (by simp [zcat_rf, zcat_i, zcat_j, zcat_f, zcat_d]) (fun z hz => by cases hz) dX3_tokenIn_44 (fun r8 => ?_)
    show zS _ 47 _ [.int r8] _
    refine zs_if_ne hE 61 (by decide) dX3_tokenIn_47 ?_ ?_
    · refine zs_aload_n hE 0 rfl rfl dX3_tokenIn_50 ?_
      refine zs_callV hE (As := []) (encA := encI) (ci := 35) rfl (fun y0 => met_X3_goesTick K y0) q3056 q105 q3053 q3055 (zq qs70) hd_X3_goesTick (by decide) (by decide) rfl (by simp [zcat_rf, zcat_i, zcat_j, zcat_f, zcat_d]) (fun z hz => by cases hz) dX3_tokenIn_51 (fun r9 => ?_)
      show zS _ 54 _ [.int r9] _
      refine zs_istore_n hE (i := 3) (q := 3) rfl (by decide) (rfl) (lv' := [(0, va_rf (some x0)), (1, .int x1), (2, .int x2)]) rfl dX3_tokenIn_54 ?_
      refine zs_iinc hE 3 (v := (1 : Int32)) rfl (by decide) (by decide) (rfl) (lv' := [(3, .int r9), (0, va_rf (some x0)), (1, .int x1)]) rfl dX3_tokenIn_55 ?_
      refine zs_goto hE 36 (by decide) dX3_tokenIn_58 ?_
      refine zs_sub [2, 3, 0] rfl ?_
      exact hs36 (x2 + (1 : Int32))
    · exact sm_X3_tokenIn_J61 hE x0 x1 x2
theorem sm_X3_tokenIn_L36 {x : ZX Int32} {K : ZK} (hE : zE x K cX3_tokenIn RX3 "tokenIn" 5 6 212 encI (Option.some Jvm.ClassFile.FieldType.int) []) (x0 : Nat) (x1 : Int32) (v : Int32) : zS x 36 [(0, va_rf (some x0)), (1, .int x1), (2, .int v)] [] (s_X3_tokenIn_L36 K x0 x1 v) := by
  unfold s_X3_tokenIn_L36
  exact zs_loop (lvf := fun v => [(0, va_rf (some x0)), (1, .int x1), (2, .int v)]) (fun self36 hs36 v => sm_X3_tokenIn_B36 hE x0 x1 self36 hs36 v) v
theorem sm_X3_tokenIn {x : ZX Int32} {K : ZK} (hE : zE x K cX3_tokenIn RX3 "tokenIn" 5 6 212 encI (Option.some Jvm.ClassFile.FieldType.int) []) (this : Nat) (a1 : Int32) : zS x 0 [(0, va_rf (some this)), (1, .int a1)] [] (s_X3_tokenIn K this a1) := by
  unfold s_X3_tokenIn
  refine zs_aload_n hE 0 rfl rfl dX3_tokenIn_0 ?_
  refine zs_iconst hE (v := (0 : Int32)) (by decide) dX3_tokenIn_1 ?_
  refine zs_putI hE (ci := 35) (k := 5) rfl (by decide) in_X3 (Or.inl q2834) (Or.inl rfl) (Or.inl rfl) (fun h => nomatch h) rfl dX3_tokenIn_2 ?_
  refine zs_aload_n hE 0 rfl rfl dX3_tokenIn_5 ?_
  refine zs_iload_n hE 1 rfl rfl dX3_tokenIn_6 ?_
  refine zs_callV hE (As := [.int a1]) (encA := encI) (ci := 35) rfl (fun y0 => met_X3_placeOf K y0 a1) q2941 q105 q2938 q2940 (zq qs49) hd_X3_placeOf (by decide) (by decide) rfl (by simp [zcat_rf, zcat_i, zcat_j, zcat_f, zcat_d]) (fun z hz => by cases hz) dX3_tokenIn_7 (fun r1 => ?_)
  show zS _ 10 _ [.int r1] _
  refine zs_if_ge hE 19 (by decide) dX3_tokenIn_10 ?_ ?_
  · refine zs_aload_n hE 0 rfl rfl dX3_tokenIn_19 ?_
    refine zs_getR hE (ci := 35) (k := 0) rfl (by decide) in_X3 (Or.inl q2829) (Or.inl rfl) dX3_tokenIn_20 (fun v2 => ?_)
    refine zs_iconst hE (v := (0 : Int32)) (by decide) dX3_tokenIn_23 ?_
    refine zs_aload_n hE 0 rfl rfl dX3_tokenIn_24 ?_
    refine zs_getR hE (ci := 35) (k := 2) rfl (by decide) in_X3 (Or.inl q2831) (Or.inl rfl) dX3_tokenIn_25 (fun v3 => ?_)
    refine zs_iconst hE (v := (0 : Int32)) (by decide) dX3_tokenIn_28 ?_
    refine zs_callS hE (As := [va_rf v2, .int (0 : Int32), va_rf v3, .int (0 : Int32)]) (encA := encV) (met_X3_copies K v2 (0 : Int32) v3 (0 : Int32)) q2923 q105 q2921 q2922 hd_X3_copies (by decide) (by decide) rfl (by simp [zcat_rf, zcat_i, zcat_j, zcat_f, zcat_d]) (fun z hz => by cases hz) dX3_tokenIn_29 (fun _ => ?_)
    show zS _ 32 _ [] _
    refine zs_iconst hE (v := (0 : Int32)) (by decide) dX3_tokenIn_32 ?_
    refine zs_istore_n hE (i := 2) (q := 2) rfl (by decide) (rfl) (lv' := [(0, va_rf (some this)), (1, .int a1)]) rfl dX3_tokenIn_33 ?_
    refine zs_iconst hE (v := (0 : Int32)) (by decide) dX3_tokenIn_34 ?_
    refine zs_istore_n hE (i := 3) (q := 3) rfl (by decide) (rfl) (lv' := [(2, .int (0 : Int32)), (0, va_rf (some this)), (1, .int a1)]) rfl dX3_tokenIn_35 ?_
    refine zs_sub [2, 3, 1] rfl ?_
    exact sm_X3_tokenIn_L36 hE this a1 (0 : Int32)
  · refine zs_aload_n hE 0 rfl rfl dX3_tokenIn_13 ?_
    refine zs_iconst hE (v := (1 : Int32)) (by decide) dX3_tokenIn_14 ?_
    refine zs_callV hE (As := [.int (1 : Int32)]) (encA := encI) (ci := 35) rfl (fun y0 => met_X3_no K y0 (1 : Int32)) q2953 q105 q2950 q2952 (zq qs52) hd_X3_no (by decide) (by decide) rfl (by simp [zcat_rf, zcat_i, zcat_j, zcat_f, zcat_d]) (fun z hz => by cases hz) dX3_tokenIn_15 (fun r10 => ?_)
    show zS _ 18 _ [.int r10] _
    exact zs_iret hE dX3_tokenIn_18
theorem hd_X3_tokenIn : (yX3_tokenIn).cls ≠ "java/lang/invoke/MethodHandle" ∧ (yX3_tokenIn).cls ≠ "java/lang/invoke/VarHandle" ∧ (parseMethodDescriptor (yX3_tokenIn).desc).map (fun d => d.parameters.length) = some 1 := by decide +kernel
theorem met_X3_tokenIn (K : ZK) (this : Nat) (a1 : Int32) : zMeth K yX3_tokenIn (zws yX3_tokenIn cX3_tokenIn 5 (Option.some Jvm.ClassFile.FieldType.int)) 6 212 [.ref this, .int a1] encI (s_X3_tokenIn K this a1) :=
  fun l G hl hK => zmet_of hl hK (by decide +kernel) rfl rfl (by simp [zsl_nil, zsl_rf, zsl_r, zsl_i, zsl_j, zsl_f, zsl_d]) (fun x hE => by simp only [zla_nil, zla_rf, zla_r, zla_i, zla_j, zla_f, zla_d, Nat.reduceAdd]; exact sm_X3_tokenIn hE this a1)
theorem sm_X3_ahead_J24 {x : ZX Int32} {K : ZK} (hE : zE x K cX3_ahead RX3 "ahead" 5 7 235 encI (Option.some Jvm.ClassFile.FieldType.int) []) (x0 : Nat) : zS x 24 [(0, va_rf (some x0))] [] (s_X3_ahead_J24 K x0) := by
  unfold s_X3_ahead_J24
  refine zs_aload_n hE 0 rfl rfl dX3_ahead_24 ?_
  refine zs_iconst hE (v := (1 : Int32)) (by decide) dX3_ahead_25 ?_
  refine zs_callV hE (As := [.int (1 : Int32)]) (encA := encI) (ci := 35) rfl (fun y0 => met_X3_no K y0 (1 : Int32)) q2953 q105 q2950 q2952 (zq qs52) hd_X3_no (by decide) (by decide) rfl (by simp [zcat_rf, zcat_i, zcat_j, zcat_f, zcat_d]) (fun z hz => by cases hz) dX3_ahead_26 (fun r2 => ?_)
  show zS _ 29 _ [.int r2] _
  exact zs_iret hE dX3_ahead_29
theorem sm_X3_ahead_J125 {x : ZX Int32} {K : ZK} (hE : zE x K cX3_ahead RX3 "ahead" 5 7 235 encI (Option.some Jvm.ClassFile.FieldType.int) []) (x0 : Nat) (t0 : Int32) : zS x 125 [(0, va_rf (some x0))] [.int t0] (s_X3_ahead_J125 K x0 t0) := by
  unfold s_X3_ahead_J125
  refine zs_istore hE (i := 4) (by decide) (trivial) (lv' := [(0, va_rf (some x0))]) rfl dX3_ahead_125 ?_
  refine zs_aload_n hE 1 rfl rfl dX3_ahead_127 ?_
  refine zs_getR hE (ci := 35) (k := 2) rfl (by decide) in_X3 (Or.inl q2831) (Or.inl rfl) dX3_ahead_128 (fun v9 => ?_)
  refine zs_iconst hE (v := (0 : Int32)) (by decide) dX3_ahead_131 ?_
  refine zs_aload_n hE 1 rfl rfl dX3_ahead_132 ?_
  refine zs_getR hE (ci := 35) (k := 0) rfl (by decide) in_X3 (Or.inl q2829) (Or.inl rfl) dX3_ahead_133 (fun v10 => ?_)
  refine zs_iconst hE (v := (0 : Int32)) (by decide) dX3_ahead_136 ?_
  refine zs_callS hE (As := [va_rf v9, .int (0 : Int32), va_rf v10, .int (0 : Int32)]) (encA := encV) (met_X3_copies K v9 (0 : Int32) v10 (0 : Int32)) q2923 q105 q2921 q2922 hd_X3_copies (by decide) (by decide) rfl (by simp [zcat_rf, zcat_i, zcat_j, zcat_f, zcat_d]) (fun z hz => by cases hz) dX3_ahead_137 (fun _ => ?_)
  show zS _ 140 _ [] _
  refine zs_iload hE 0 rfl dX3_ahead_140 ?_
  exact zs_iret hE dX3_ahead_142
theorem sm_X3_ahead {x : ZX Int32} {K : ZK} (hE : zE x K cX3_ahead RX3 "ahead" 5 7 235 encI (Option.some Jvm.ClassFile.FieldType.int) []) (this : Nat) (a1 : Int32) (a2 : Int32) : zS x 0 [(0, va_rf (some this)), (1, .int a1), (2, .int a2)] [] (s_X3_ahead K this a1 a2) := by
  unfold s_X3_ahead
  refine zs_aload_n hE 0 rfl rfl dX3_ahead_0 ?_
  refine zs_iconst hE (v := (0 : Int32)) (by decide) dX3_ahead_1 ?_
  refine zs_putI hE (ci := 35) (k := 5) rfl (by decide) in_X3 (Or.inl q2834) (Or.inl rfl) (Or.inl rfl) (fun h => nomatch h) rfl dX3_ahead_2 ?_
  refine zs_iload_n hE 1 rfl rfl dX3_ahead_5 ?_
  refine zs_iconst hE (v := (0 : Int32)) (by decide) dX3_ahead_6 ?_
  refine zs_bipush hE (v := (60 : Int32)) (by decide) dX3_ahead_7 ?_
  refine zs_callS hE (As := [.int a1, .int (0 : Int32), .int (60 : Int32)]) (encA := encI) (met_X3_in K a1 (0 : Int32) (60 : Int32)) q2933 q105 q2931 q2932 hd_X3_in (by decide) (by decide) rfl (by simp [zcat_rf, zcat_i, zcat_j, zcat_f, zcat_d]) (fun z hz => by cases hz) dX3_ahead_9 (fun r1 => ?_)
  show zS _ 12 _ [.int r1] _
  refine zs_if_eq hE 24 (by decide) dX3_ahead_12 ?_ ?_
  · refine zs_sub [0] rfl ?_
    exact sm_X3_ahead_J24 hE this
  · refine zs_iload_n hE 2 rfl rfl dX3_ahead_15 ?_
    refine zs_iconst hE (v := (0 : Int32)) (by decide) dX3_ahead_16 ?_
    refine zs_iconst hE (v := (5 : Int32)) (by decide) dX3_ahead_17 ?_
    refine zs_callS hE (As := [.int a2, .int (0 : Int32), .int (5 : Int32)]) (encA := encI) (met_X3_in K a2 (0 : Int32) (5 : Int32)) q2933 q105 q2931 q2932 hd_X3_in (by decide) (by decide) rfl (by simp [zcat_rf, zcat_i, zcat_j, zcat_f, zcat_d]) (fun z hz => by cases hz) dX3_ahead_18 (fun r3 => ?_)
    show zS _ 21 _ [.int r3] _
    refine zs_if_ne hE 30 (by decide) dX3_ahead_21 ?_ ?_
    · refine zs_sub [0] rfl ?_
      exact sm_X3_ahead_J24 hE this
    · refine zs_aload_n hE 0 rfl rfl dX3_ahead_30 ?_
      refine zs_getR hE (ci := 35) (k := 0) rfl (by decide) in_X3 (Or.inl q2829) (Or.inl rfl) dX3_ahead_31 (fun v4 => ?_)
      refine zs_iconst hE (v := (0 : Int32)) (by decide) dX3_ahead_34 ?_
      refine zs_aload_n hE 0 rfl rfl dX3_ahead_35 ?_
      refine zs_getR hE (ci := 35) (k := 2) rfl (by decide) in_X3 (Or.inl q2831) (Or.inl rfl) dX3_ahead_36 (fun v5 => ?_)
      refine zs_iconst hE (v := (0 : Int32)) (by decide) dX3_ahead_39 ?_
      refine zs_callS hE (As := [va_rf v4, .int (0 : Int32), va_rf v5, .int (0 : Int32)]) (encA := encV) (met_X3_copies K v4 (0 : Int32) v5 (0 : Int32)) q2923 q105 q2921 q2922 hd_X3_copies (by decide) (by decide) rfl (by simp [zcat_rf, zcat_i, zcat_j, zcat_f, zcat_d]) (fun z hz => by cases hz) dX3_ahead_40 (fun _ => ?_)
      show zS _ 43 _ [] _
      refine zs_aload_n hE 0 rfl rfl dX3_ahead_43 ?_
      refine zs_iload_n hE 1 rfl rfl dX3_ahead_44 ?_
      refine zs_callV hE (As := [.int a1]) (encA := encI) (ci := 35) rfl (fun y0 => met_X3_goes K y0 a1) q3052 q105 q3049 q3051 (zq qs69) hd_X3_goes (by decide) (by decide) rfl (by simp [zcat_rf, zcat_i, zcat_j, zcat_f, zcat_d]) (fun z hz => by cases hz) dX3_ahead_45 (fun r6 => ?_)
      show zS _ 48 _ [.int r6] _
      refine zs_istore_n hE (i := 3) (q := 3) rfl (by decide) (rfl) (lv' := [(0, va_rf (some this)), (1, .int a1), (2, .int a2)]) rfl dX3_ahead_48 ?_
      refine zs_iload_n hE 3 rfl rfl dX3_ahead_49 ?_
      refine zs_if_ne hE 63 (by decide) dX3_ahead_50 ?_ ?_
      · refine zs_aload_n hE 1 rfl rfl dX3_ahead_53 ?_
        refine zs_getR hE (ci := 35) (k := 0) rfl (by decide) in_X3 (Or.inl q2829) (Or.inl rfl) dX3_ahead_54 (fun v7 => ?_)
        refine zs_bipush hE (v := (6 : Int32)) (by decide) dX3_ahead_57 ?_
        refine zs_ald hE dX3_ahead_59 (fun v8 => ?_)
        refine zs_goto hE 125 (by decide) dX3_ahead_60 ?_
        refine zs_sub [1] rfl ?_
        exact sm_X3_ahead_J125 hE this v8
      · refine zs_iload_n hE 3 rfl rfl dX3_ahead_63 ?_
        refine zs_iconst hE (v := (1 : Int32)) (by decide) dX3_ahead_64 ?_
        refine zs_icmp_ne hE 75 (by decide) dX3_ahead_65 ?_ ?_
        · refine zs_aload_n hE 1 rfl rfl dX3_ahead_68 ?_
          refine zs_callV hE (As := []) (encA := encI) (ci := 35) rfl (fun y0 => met_X3_allWaiting K y0) q3029 q105 q3026 q3028 (zq qs66) hd_X3_allWaiting (by decide) (by decide) rfl (by simp [zcat_rf, zcat_i, zcat_j, zcat_f, zcat_d]) (fun z hz => by cases hz) dX3_ahead_69 (fun r11 => ?_)
          show zS _ 72 _ [.int r11] _
          refine zs_goto hE 125 (by decide) dX3_ahead_72 ?_
          refine zs_sub [1] rfl ?_
          exact sm_X3_ahead_J125 hE this r11
        · refine zs_iload_n hE 3 rfl rfl dX3_ahead_75 ?_
          refine zs_iconst hE (v := (2 : Int32)) (by decide) dX3_ahead_76 ?_
          refine zs_icmp_ne hE 90 (by decide) dX3_ahead_77 ?_ ?_
          · refine zs_aload_n hE 1 rfl rfl dX3_ahead_80 ?_
            refine zs_getR hE (ci := 35) (k := 0) rfl (by decide) in_X3 (Or.inl q2829) (Or.inl rfl) dX3_ahead_81 (fun v12 => ?_)
            refine zs_bipush hE (v := (18 : Int32)) (by decide) dX3_ahead_84 ?_
            refine zs_ald hE dX3_ahead_86 (fun v13 => ?_)
            refine zs_goto hE 125 (by decide) dX3_ahead_87 ?_
            refine zs_sub [1] rfl ?_
            exact sm_X3_ahead_J125 hE this v13
          · refine zs_iload_n hE 3 rfl rfl dX3_ahead_90 ?_
            refine zs_iconst hE (v := (3 : Int32)) (by decide) dX3_ahead_91 ?_
            refine zs_icmp_ne hE 104 (by decide) dX3_ahead_92 ?_ ?_
            · refine zs_aload_n hE 1 rfl rfl dX3_ahead_95 ?_
              refine zs_getR hE (ci := 35) (k := 0) rfl (by decide) in_X3 (Or.inl q2829) (Or.inl rfl) dX3_ahead_96 (fun v14 => ?_)
              refine zs_iconst hE (v := (2 : Int32)) (by decide) dX3_ahead_99 ?_
              refine zs_ald hE dX3_ahead_100 (fun v15 => ?_)
              refine zs_goto hE 125 (by decide) dX3_ahead_101 ?_
              refine zs_sub [1] rfl ?_
              exact sm_X3_ahead_J125 hE this v15
            · refine zs_iload_n hE 3 rfl rfl dX3_ahead_104 ?_
              refine zs_iconst hE (v := (4 : Int32)) (by decide) dX3_ahead_105 ?_
              refine zs_icmp_ne hE 118 (by decide) dX3_ahead_106 ?_ ?_
              · refine zs_aload_n hE 1 rfl rfl dX3_ahead_109 ?_
                refine zs_getR hE (ci := 35) (k := 0) rfl (by decide) in_X3 (Or.inl q2829) (Or.inl rfl) dX3_ahead_110 (fun v16 => ?_)
                refine zs_iconst hE (v := (3 : Int32)) (by decide) dX3_ahead_113 ?_
                refine zs_ald hE dX3_ahead_114 (fun v17 => ?_)
                refine zs_goto hE 125 (by decide) dX3_ahead_115 ?_
                refine zs_sub [1] rfl ?_
                exact sm_X3_ahead_J125 hE this v17
              · refine zs_aload_n hE 1 rfl rfl dX3_ahead_118 ?_
                refine zs_getR hE (ci := 35) (k := 0) rfl (by decide) in_X3 (Or.inl q2829) (Or.inl rfl) dX3_ahead_119 (fun v18 => ?_)
                refine zs_bipush hE (v := (8 : Int32)) (by decide) dX3_ahead_122 ?_
                refine zs_ald hE dX3_ahead_124 (fun v19 => ?_)
                refine zs_sub [1] rfl ?_
                exact sm_X3_ahead_J125 hE this v19
theorem hd_X3_ahead : (yX3_ahead).cls ≠ "java/lang/invoke/MethodHandle" ∧ (yX3_ahead).cls ≠ "java/lang/invoke/VarHandle" ∧ (parseMethodDescriptor (yX3_ahead).desc).map (fun d => d.parameters.length) = some 2 := by decide +kernel
theorem met_X3_ahead (K : ZK) (this : Nat) (a1 : Int32) (a2 : Int32) : zMeth K yX3_ahead (zws yX3_ahead cX3_ahead 5 (Option.some Jvm.ClassFile.FieldType.int)) 7 235 [.ref this, .int a1, .int a2] encI (s_X3_ahead K this a1 a2) :=
  fun l G hl hK => zmet_of hl hK (by decide +kernel) rfl rfl (by simp [zsl_nil, zsl_rf, zsl_r, zsl_i, zsl_j, zsl_f, zsl_d]) (fun x hE => by simp only [zla_nil, zla_rf, zla_r, zla_i, zla_j, zla_f, zla_d, Nat.reduceAdd]; exact sm_X3_ahead hE this a1 a2)
theorem sm_X3_isAhead {x : ZX Int32} {K : ZK} (hE : zE x K cX3_isAhead RX3 "isAhead" 3 4 168 encI (Option.some Jvm.ClassFile.FieldType.boolean) []) (this : Nat) (a1 : Int32) (a2 : Int32) : zS x 0 [(0, va_rf (some this)), (1, .int a1), (2, .int a2)] [] (s_X3_isAhead K this a1 a2) := by
  unfold s_X3_isAhead
  refine zs_aload_n hE 0 rfl rfl dX3_isAhead_0 ?_
  refine zs_iload_n hE 1 rfl rfl dX3_isAhead_1 ?_
  refine zs_iconst hE (v := (1 : Int32)) (by decide) dX3_isAhead_2 ?_
  refine zs_callV hE (As := [.int a1, .int (1 : Int32)]) (encA := encI) (ci := 35) rfl (fun y0 => met_X3_sv K y0 a1 (1 : Int32)) q2945 q105 q2942 q2944 (zq qs50) hd_X3_sv (by decide) (by decide) rfl (by simp [zcat_rf, zcat_i, zcat_j, zcat_f, zcat_d]) (fun z hz => by cases hz) dX3_isAhead_3 (fun r1 => ?_)
  show zS _ 6 _ [.int r1] _
  refine zs_aload_n hE 0 rfl rfl dX3_isAhead_6 ?_
  refine zs_iload_n hE 2 rfl rfl dX3_isAhead_7 ?_
  refine zs_iconst hE (v := (1 : Int32)) (by decide) dX3_isAhead_8 ?_
  refine zs_callV hE (As := [.int a2, .int (1 : Int32)]) (encA := encI) (ci := 35) rfl (fun y0 => met_X3_sv K y0 a2 (1 : Int32)) q2945 q105 q2942 q2944 (zq qs50) hd_X3_sv (by decide) (by decide) rfl (by simp [zcat_rf, zcat_i, zcat_j, zcat_f, zcat_d]) (fun z hz => by cases hz) dX3_isAhead_9 (fun r2 => ?_)
  show zS _ 12 _ [.int r2, .int r1] _
  refine zs_icmp_eq hE 36 (by decide) dX3_isAhead_12 ?_ ?_
  · refine zs_aload_n hE 0 rfl rfl dX3_isAhead_36 ?_
    refine zs_iload_n hE 1 rfl rfl dX3_isAhead_37 ?_
    refine zs_callV hE (As := [.int a1]) (encA := encI) (ci := 35) rfl (fun y0 => met_X3_lengths K y0 a1) q3119 q105 q3116 q3118 (zq qs79) hd_X3_lengths (by decide) (by decide) rfl (by simp [zcat_rf, zcat_i, zcat_j, zcat_f, zcat_d]) (fun z hz => by cases hz) dX3_isAhead_38 (fun r3 => ?_)
    show zS _ 41 _ [.int r3] _
    refine zs_aload_n hE 0 rfl rfl dX3_isAhead_41 ?_
    refine zs_iload_n hE 2 rfl rfl dX3_isAhead_42 ?_
    refine zs_callV hE (As := [.int a2]) (encA := encI) (ci := 35) rfl (fun y0 => met_X3_lengths K y0 a2) q3119 q105 q3116 q3118 (zq qs79) hd_X3_lengths (by decide) (by decide) rfl (by simp [zcat_rf, zcat_i, zcat_j, zcat_f, zcat_d]) (fun z hz => by cases hz) dX3_isAhead_43 (fun r4 => ?_)
    show zS _ 46 _ [.int r4, .int r3] _
    refine zs_icmp_gt hE 67 (by decide) dX3_isAhead_46 ?_ ?_
    · refine zs_iconst hE (v := (1 : Int32)) (by decide) dX3_isAhead_67 ?_
      refine zs_goto hE 72 (by decide) dX3_isAhead_68 ?_
      exact zs_zret hE rfl dX3_isAhead_72
    · refine zs_aload_n hE 0 rfl rfl dX3_isAhead_49 ?_
      refine zs_iload_n hE 1 rfl rfl dX3_isAhead_50 ?_
      refine zs_callV hE (As := [.int a1]) (encA := encI) (ci := 35) rfl (fun y0 => met_X3_lengths K y0 a1) q3119 q105 q3116 q3118 (zq qs79) hd_X3_lengths (by decide) (by decide) rfl (by simp [zcat_rf, zcat_i, zcat_j, zcat_f, zcat_d]) (fun z hz => by cases hz) dX3_isAhead_51 (fun r5 => ?_)
      show zS _ 54 _ [.int r5] _
      refine zs_aload_n hE 0 rfl rfl dX3_isAhead_54 ?_
      refine zs_iload_n hE 2 rfl rfl dX3_isAhead_55 ?_
      refine zs_callV hE (As := [.int a2]) (encA := encI) (ci := 35) rfl (fun y0 => met_X3_lengths K y0 a2) q3119 q105 q3116 q3118 (zq qs79) hd_X3_lengths (by decide) (by decide) rfl (by simp [zcat_rf, zcat_i, zcat_j, zcat_f, zcat_d]) (fun z hz => by cases hz) dX3_isAhead_56 (fun r6 => ?_)
      show zS _ 59 _ [.int r6, .int r5] _
      refine zs_icmp_ne hE 71 (by decide) dX3_isAhead_59 ?_ ?_
      · refine zs_iload_n hE 1 rfl rfl dX3_isAhead_62 ?_
        refine zs_iload_n hE 2 rfl rfl dX3_isAhead_63 ?_
        refine zs_icmp_ge hE 71 (by decide) dX3_isAhead_64 ?_ ?_
        · refine zs_iconst hE (v := (0 : Int32)) (by decide) dX3_isAhead_71 ?_
          exact zs_zret hE rfl dX3_isAhead_72
        · refine zs_iconst hE (v := (1 : Int32)) (by decide) dX3_isAhead_67 ?_
          refine zs_goto hE 72 (by decide) dX3_isAhead_68 ?_
          exact zs_zret hE rfl dX3_isAhead_72
      · refine zs_iconst hE (v := (0 : Int32)) (by decide) dX3_isAhead_71 ?_
        exact zs_zret hE rfl dX3_isAhead_72
  · refine zs_aload_n hE 0 rfl rfl dX3_isAhead_15 ?_
    refine zs_iload_n hE 1 rfl rfl dX3_isAhead_16 ?_
    refine zs_iconst hE (v := (1 : Int32)) (by decide) dX3_isAhead_17 ?_
    refine zs_callV hE (As := [.int a1, .int (1 : Int32)]) (encA := encI) (ci := 35) rfl (fun y0 => met_X3_sv K y0 a1 (1 : Int32)) q2945 q105 q2942 q2944 (zq qs50) hd_X3_sv (by decide) (by decide) rfl (by simp [zcat_rf, zcat_i, zcat_j, zcat_f, zcat_d]) (fun z hz => by cases hz) dX3_isAhead_18 (fun r7 => ?_)
    show zS _ 21 _ [.int r7] _
    refine zs_aload_n hE 0 rfl rfl dX3_isAhead_21 ?_
    refine zs_iload_n hE 2 rfl rfl dX3_isAhead_22 ?_
    refine zs_iconst hE (v := (1 : Int32)) (by decide) dX3_isAhead_23 ?_
    refine zs_callV hE (As := [.int a2, .int (1 : Int32)]) (encA := encI) (ci := 35) rfl (fun y0 => met_X3_sv K y0 a2 (1 : Int32)) q2945 q105 q2942 q2944 (zq qs50) hd_X3_sv (by decide) (by decide) rfl (by simp [zcat_rf, zcat_i, zcat_j, zcat_f, zcat_d]) (fun z hz => by cases hz) dX3_isAhead_24 (fun r8 => ?_)
    show zS _ 27 _ [.int r8, .int r7] _
    refine zs_icmp_le hE 34 (by decide) dX3_isAhead_27 ?_ ?_
    · refine zs_iconst hE (v := (0 : Int32)) (by decide) dX3_isAhead_34 ?_
      exact zs_zret hE rfl dX3_isAhead_35
    · refine zs_iconst hE (v := (1 : Int32)) (by decide) dX3_isAhead_30 ?_
      refine zs_goto hE 35 (by decide) dX3_isAhead_31 ?_
      exact zs_zret hE rfl dX3_isAhead_35
theorem hd_X3_isAhead : (yX3_isAhead).cls ≠ "java/lang/invoke/MethodHandle" ∧ (yX3_isAhead).cls ≠ "java/lang/invoke/VarHandle" ∧ (parseMethodDescriptor (yX3_isAhead).desc).map (fun d => d.parameters.length) = some 2 := by decide +kernel
theorem met_X3_isAhead (K : ZK) (this : Nat) (a1 : Int32) (a2 : Int32) : zMeth K yX3_isAhead (zws yX3_isAhead cX3_isAhead 3 (Option.some Jvm.ClassFile.FieldType.boolean)) 4 168 [.ref this, .int a1, .int a2] encI (s_X3_isAhead K this a1 a2) :=
  fun l G hl hK => zmet_of hl hK (by decide +kernel) rfl rfl (by simp [zsl_nil, zsl_rf, zsl_r, zsl_i, zsl_j, zsl_f, zsl_d]) (fun x hE => by simp only [zla_nil, zla_rf, zla_r, zla_i, zla_j, zla_f, zla_d, Nat.reduceAdd]; exact sm_X3_isAhead hE this a1 a2)
theorem sm_X3_ranked_B22 {x : ZX Int32} {K : ZK} (hE : zE x K cX3_ranked RX3 "ranked" 5 5 190 encI (Option.some Jvm.ClassFile.FieldType.int) []) (x0 : Nat) (x1 : Int32) (x2 : Int32) (self7 : Int32 → ZP Int32) (self22 : (Int32 × Int32) → ZP Int32) (hs7 : ∀ v : Int32, zS x 7 [(0, va_rf (some x0)), (1, .int x1), (2, .int v)] [] (self7 v)) (hs22 : ∀ v : Int32 × Int32, zS x 22 [(0, va_rf (some x0)), (1, .int x1), (2, .int x2), (3, .int v.1), (4, .int v.2)] [] (self22 v)) (x3 : Int32) (x4 : Int32) : zS x 22 [(0, va_rf (some x0)), (1, .int x1), (2, .int x2), (3, .int x3), (4, .int x4)] [] (s_X3_ranked_B22 K x0 x1 x2 self7 self22 x3 x4) := by
  unfold s_X3_ranked_B22
  refine zs_iload hE 4 rfl dX3_ranked_22 ?_
  refine zs_aload_n hE 0 rfl rfl dX3_ranked_24 ?_
  refine zs_getR hE (ci := 35) (k := 0) rfl (by decide) in_X3 (Or.inl q2829) (Or.inl rfl) dX3_ranked_25 (fun v4 => ?_)
  refine zs_iconst hE (v := (1 : Int32)) (by decide) dX3_ranked_28 ?_
  refine zs_ald hE dX3_ranked_29 (fun v5 => ?_)
  refine zs_icmp_ge hE 57 (by decide) dX3_ranked_30 ?_ ?_
  · refine zs_iload_n hE 3 rfl rfl dX3_ranked_57 ?_
    refine zs_iload_n hE 1 rfl rfl dX3_ranked_58 ?_
    refine zs_icmp_ne hE 69 (by decide) dX3_ranked_59 ?_ ?_
    · refine zs_aload_n hE 0 rfl rfl dX3_ranked_62 ?_
      refine zs_iload_n hE 2 rfl rfl dX3_ranked_63 ?_
      refine zs_iconst hE (v := (0 : Int32)) (by decide) dX3_ranked_64 ?_
      refine zs_callV hE (As := [.int x2, .int (0 : Int32)]) (encA := encI) (ci := 35) rfl (fun y0 => met_X3_sv K y0 x2 (0 : Int32)) q2945 q105 q2942 q2944 (zq qs50) hd_X3_sv (by decide) (by decide) rfl (by simp [zcat_rf, zcat_i, zcat_j, zcat_f, zcat_d]) (fun z hz => by cases hz) dX3_ranked_65 (fun r6 => ?_)
      show zS _ 68 _ [.int r6] _
      exact zs_iret hE dX3_ranked_68
    · refine zs_iinc hE 2 (v := (1 : Int32)) rfl (by decide) (by decide) (rfl) (lv' := [(0, va_rf (some x0)), (1, .int x1), (3, .int x3), (4, .int x4)]) rfl dX3_ranked_69 ?_
      refine zs_goto hE 7 (by decide) dX3_ranked_72 ?_
      refine zs_sub [1, 2, 0] rfl ?_
      exact hs7 (x2 + (1 : Int32))
  · refine zs_iload_n hE 3 rfl rfl dX3_ranked_33 ?_
    refine zs_aload_n hE 0 rfl rfl dX3_ranked_34 ?_
    refine zs_iload hE 4 rfl dX3_ranked_35 ?_
    refine zs_iload_n hE 2 rfl rfl dX3_ranked_37 ?_
    refine zs_callV hE (As := [.int x4, .int x2]) (encA := encI) (ci := 35) rfl (fun y0 => met_X3_isAhead K y0 x4 x2) q3175 q105 q3172 q3174 (zq qs83) hd_X3_isAhead (by decide) (by decide) rfl (by simp [zcat_rf, zcat_i, zcat_j, zcat_f, zcat_d]) (fun z hz => by cases hz) dX3_ranked_38 (fun r7 => ?_)
    show zS _ 41 _ [.int r7, .int x3] _
    refine zs_if_eq hE 48 (by decide) dX3_ranked_41 ?_ ?_
    · refine zs_iconst hE (v := (0 : Int32)) (by decide) dX3_ranked_48 ?_
      refine zs_iadd hE dX3_ranked_49 ?_
      refine zs_istore_n hE (i := 3) (q := 3) rfl (by decide) (rfl) (lv' := [(0, va_rf (some x0)), (1, .int x1), (2, .int x2), (4, .int x4)]) rfl dX3_ranked_50 ?_
      refine zs_iinc hE 4 (v := (1 : Int32)) rfl (by decide) (by decide) (rfl) (lv' := [(3, .int (x3 + (0 : Int32))), (0, va_rf (some x0)), (1, .int x1), (2, .int x2)]) rfl dX3_ranked_51 ?_
      refine zs_goto hE 22 (by decide) dX3_ranked_54 ?_
      refine zs_sub [2, 3, 4, 1, 0] rfl ?_
      exact hs22 (x3 + (0 : Int32), x4 + (1 : Int32))
    · refine zs_iconst hE (v := (1 : Int32)) (by decide) dX3_ranked_44 ?_
      refine zs_goto hE 49 (by decide) dX3_ranked_45 ?_
      refine zs_iadd hE dX3_ranked_49 ?_
      refine zs_istore_n hE (i := 3) (q := 3) rfl (by decide) (rfl) (lv' := [(0, va_rf (some x0)), (1, .int x1), (2, .int x2), (4, .int x4)]) rfl dX3_ranked_50 ?_
      refine zs_iinc hE 4 (v := (1 : Int32)) rfl (by decide) (by decide) (rfl) (lv' := [(3, .int (x3 + (1 : Int32))), (0, va_rf (some x0)), (1, .int x1), (2, .int x2)]) rfl dX3_ranked_51 ?_
      refine zs_goto hE 22 (by decide) dX3_ranked_54 ?_
      refine zs_sub [2, 3, 4, 1, 0] rfl ?_
      exact hs22 (x3 + (1 : Int32), x4 + (1 : Int32))
theorem sm_X3_ranked_L22 {x : ZX Int32} {K : ZK} (hE : zE x K cX3_ranked RX3 "ranked" 5 5 190 encI (Option.some Jvm.ClassFile.FieldType.int) []) (x0 : Nat) (x1 : Int32) (x2 : Int32) (self7 : Int32 → ZP Int32) (hs7 : ∀ v : Int32, zS x 7 [(0, va_rf (some x0)), (1, .int x1), (2, .int v)] [] (self7 v)) (v : Int32 × Int32) : zS x 22 [(0, va_rf (some x0)), (1, .int x1), (2, .int x2), (3, .int v.1), (4, .int v.2)] [] (s_X3_ranked_L22 K x0 x1 x2 self7 v) := by
  unfold s_X3_ranked_L22
  exact zs_loop (lvf := fun v => [(0, va_rf (some x0)), (1, .int x1), (2, .int x2), (3, .int v.1), (4, .int v.2)]) (fun self22 hs22 v => sm_X3_ranked_B22 hE x0 x1 x2 self7 self22 hs7 hs22 v.1 v.2) v
theorem sm_X3_ranked_B7 {x : ZX Int32} {K : ZK} (hE : zE x K cX3_ranked RX3 "ranked" 5 5 190 encI (Option.some Jvm.ClassFile.FieldType.int) []) (x0 : Nat) (x1 : Int32) (self7 : Int32 → ZP Int32) (hs7 : ∀ v : Int32, zS x 7 [(0, va_rf (some x0)), (1, .int x1), (2, .int v)] [] (self7 v)) (x2 : Int32) : zS x 7 [(0, va_rf (some x0)), (1, .int x1), (2, .int x2)] [] (s_X3_ranked_B7 K x0 x1 self7 x2) := by
  unfold s_X3_ranked_B7
  refine zs_iload_n hE 2 rfl rfl dX3_ranked_7 ?_
  refine zs_aload_n hE 0 rfl rfl dX3_ranked_8 ?_
  refine zs_getR hE (ci := 35) (k := 0) rfl (by decide) in_X3 (Or.inl q2829) (Or.inl rfl) dX3_ranked_9 (fun v1 => ?_)
  refine zs_iconst hE (v := (1 : Int32)) (by decide) dX3_ranked_12 ?_
  refine zs_ald hE dX3_ranked_13 (fun v2 => ?_)
  refine zs_icmp_ge hE 75 (by decide) dX3_ranked_14 ?_ ?_
  · refine zs_aload_n hE 0 rfl rfl dX3_ranked_75 ?_
    refine zs_iconst hE (v := (1 : Int32)) (by decide) dX3_ranked_76 ?_
    refine zs_callV hE (As := [.int (1 : Int32)]) (encA := encI) (ci := 35) rfl (fun y0 => met_X3_no K y0 (1 : Int32)) q2953 q105 q2950 q2952 (zq qs52) hd_X3_no (by decide) (by decide) rfl (by simp [zcat_rf, zcat_i, zcat_j, zcat_f, zcat_d]) (fun z hz => by cases hz) dX3_ranked_77 (fun r3 => ?_)
    show zS _ 80 _ [.int r3] _
    exact zs_iret hE dX3_ranked_80
  · refine zs_iconst hE (v := (0 : Int32)) (by decide) dX3_ranked_17 ?_
    refine zs_istore_n hE (i := 3) (q := 3) rfl (by decide) (rfl) (lv' := [(0, va_rf (some x0)), (1, .int x1), (2, .int x2)]) rfl dX3_ranked_18 ?_
    refine zs_iconst hE (v := (0 : Int32)) (by decide) dX3_ranked_19 ?_
    refine zs_istore hE (i := 4) (by decide) (rfl) (lv' := [(3, .int (0 : Int32)), (0, va_rf (some x0)), (1, .int x1), (2, .int x2)]) rfl dX3_ranked_20 ?_
    refine zs_sub [2, 3, 4, 1, 0] rfl ?_
    exact sm_X3_ranked_L22 hE x0 x1 x2 self7 hs7 ((0 : Int32), (0 : Int32))
theorem sm_X3_ranked_L7 {x : ZX Int32} {K : ZK} (hE : zE x K cX3_ranked RX3 "ranked" 5 5 190 encI (Option.some Jvm.ClassFile.FieldType.int) []) (x0 : Nat) (x1 : Int32) (v : Int32) : zS x 7 [(0, va_rf (some x0)), (1, .int x1), (2, .int v)] [] (s_X3_ranked_L7 K x0 x1 v) := by
  unfold s_X3_ranked_L7
  exact zs_loop (lvf := fun v => [(0, va_rf (some x0)), (1, .int x1), (2, .int v)]) (fun self7 hs7 v => sm_X3_ranked_B7 hE x0 x1 self7 hs7 v) v
theorem sm_X3_ranked {x : ZX Int32} {K : ZK} (hE : zE x K cX3_ranked RX3 "ranked" 5 5 190 encI (Option.some Jvm.ClassFile.FieldType.int) []) (this : Nat) (a1 : Int32) : zS x 0 [(0, va_rf (some this)), (1, .int a1)] [] (s_X3_ranked K this a1) := by
  unfold s_X3_ranked
  refine zs_aload_n hE 0 rfl rfl dX3_ranked_0 ?_
  refine zs_iconst hE (v := (0 : Int32)) (by decide) dX3_ranked_1 ?_
  refine zs_putI hE (ci := 35) (k := 5) rfl (by decide) in_X3 (Or.inl q2834) (Or.inl rfl) (Or.inl rfl) (fun h => nomatch h) rfl dX3_ranked_2 ?_
  refine zs_iconst hE (v := (0 : Int32)) (by decide) dX3_ranked_5 ?_
  refine zs_istore_n hE (i := 2) (q := 2) rfl (by decide) (rfl) (lv' := [(0, va_rf (some this)), (1, .int a1)]) rfl dX3_ranked_6 ?_
  refine zs_sub [1, 2, 0] rfl ?_
  exact sm_X3_ranked_L7 hE this a1 (0 : Int32)
theorem hd_X3_ranked : (yX3_ranked).cls ≠ "java/lang/invoke/MethodHandle" ∧ (yX3_ranked).cls ≠ "java/lang/invoke/VarHandle" ∧ (parseMethodDescriptor (yX3_ranked).desc).map (fun d => d.parameters.length) = some 1 := by decide +kernel
theorem met_X3_ranked (K : ZK) (this : Nat) (a1 : Int32) : zMeth K yX3_ranked (zws yX3_ranked cX3_ranked 5 (Option.some Jvm.ClassFile.FieldType.int)) 5 190 [.ref this, .int a1] encI (s_X3_ranked K this a1) :=
  fun l G hl hK => zmet_of hl hK (by decide +kernel) rfl rfl (by simp [zsl_nil, zsl_rf, zsl_r, zsl_i, zsl_j, zsl_f, zsl_d]) (fun x hE => by simp only [zla_nil, zla_rf, zla_r, zla_i, zla_j, zla_f, zla_d, Nat.reduceAdd]; exact sm_X3_ranked hE this a1)
theorem sm_X3_longestWait_J77 {x : ZX Int32} {K : ZK} (hE : zE x K cX3_longestWait RX3 "longestWait" 7 3 145 encI (Option.some Jvm.ClassFile.FieldType.int) []) (x0 : Nat) (x3 : Int32) (x4 : Int32) (x5 : Int32) (x6 : Int32) (self11 : (Int32 × Int32 × Int32) → ZP Int32) (self24 : (Int32 × Int32 × Int32) → ZP Int32) (hs11 : ∀ v : Int32 × Int32 × Int32, zS x 11 [(0, va_rf (some x0)), (1, .int v.1), (2, .int v.2.1), (3, .int v.2.2)] [] (self11 v)) (hs24 : ∀ v : Int32 × Int32 × Int32, zS x 24 [(0, va_rf (some x0)), (1, .int v.1), (2, .int v.2.1), (3, .int x3), (4, .int v.2.2)] [] (self24 v)) : zS x 77 [(0, va_rf (some x0)), (3, .int x3), (4, .int x4), (5, .int x5), (6, .int x6)] [] (s_X3_longestWait_J77 K x0 x3 x4 x5 x6 self11 self24) := by
  unfold s_X3_longestWait_J77
  refine zs_iload hE 4 rfl dX3_longestWait_77 ?_
  refine zs_istore_n hE (i := 1) (q := 1) rfl (by decide) (zcat_rf (some x0)) (lv' := [(0, va_rf (some x0)), (3, .int x3), (4, .int x4), (5, .int x5), (6, .int x6)]) rfl dX3_longestWait_79 ?_
  refine zs_iload hE 4 rfl dX3_longestWait_80 ?_
  refine zs_istore_n hE (i := 2) (q := 2) rfl (by decide) (rfl) (lv' := [(1, .int x6), (0, va_rf (some x0)), (3, .int x3), (4, .int x4), (5, .int x5), (6, .int x6)]) rfl dX3_longestWait_82 ?_
  refine zs_iinc hE 4 (v := (1 : Int32)) rfl (by decide) (by decide) (rfl) (lv' := [(2, .int x5), (1, .int x6), (0, va_rf (some x0)), (3, .int x3), (5, .int x5), (6, .int x6)]) rfl dX3_longestWait_83 ?_
  refine zs_goto hE 24 (by decide) dX3_longestWait_86 ?_
  refine zs_sub [3, 2, 1, 4, 0] rfl ?_
  exact hs24 (x6, x5, x4 + (1 : Int32))
theorem sm_X3_longestWait_B24 {x : ZX Int32} {K : ZK} (hE : zE x K cX3_longestWait RX3 "longestWait" 7 3 145 encI (Option.some Jvm.ClassFile.FieldType.int) []) (x0 : Nat) (x3 : Int32) (self11 : (Int32 × Int32 × Int32) → ZP Int32) (self24 : (Int32 × Int32 × Int32) → ZP Int32) (hs11 : ∀ v : Int32 × Int32 × Int32, zS x 11 [(0, va_rf (some x0)), (1, .int v.1), (2, .int v.2.1), (3, .int v.2.2)] [] (self11 v)) (hs24 : ∀ v : Int32 × Int32 × Int32, zS x 24 [(0, va_rf (some x0)), (1, .int v.1), (2, .int v.2.1), (3, .int x3), (4, .int v.2.2)] [] (self24 v)) (x1 : Int32) (x2 : Int32) (x4 : Int32) : zS x 24 [(0, va_rf (some x0)), (1, .int x1), (2, .int x2), (3, .int x3), (4, .int x4)] [] (s_X3_longestWait_B24 K x0 x3 self11 self24 x1 x2 x4) := by
  unfold s_X3_longestWait_B24
  refine zs_iload hE 4 rfl dX3_longestWait_24 ?_
  refine zs_aload_n hE 0 rfl rfl dX3_longestWait_26 ?_
  refine zs_iload_n hE 3 rfl rfl dX3_longestWait_27 ?_
  refine zs_iconst hE (v := (1 : Int32)) (by decide) dX3_longestWait_28 ?_
  refine zs_callV hE (As := [.int x3, .int (1 : Int32)]) (encA := encI) (ci := 35) rfl (fun y0 => met_X3_sv K y0 x3 (1 : Int32)) q2945 q105 q2942 q2944 (zq qs50) hd_X3_sv (by decide) (by decide) rfl (by simp [zcat_rf, zcat_i, zcat_j, zcat_f, zcat_d]) (fun z hz => by cases hz) dX3_longestWait_29 (fun r4 => ?_)
  show zS _ 32 _ [.int r4, .int x4] _
  refine zs_icmp_ge hE 89 (by decide) dX3_longestWait_32 ?_ ?_
  · refine zs_iinc hE 3 (v := (1 : Int32)) rfl (by decide) (by decide) (rfl) (lv' := [(0, va_rf (some x0)), (1, .int x1), (2, .int x2), (4, .int x4)]) rfl dX3_longestWait_89 ?_
    refine zs_goto hE 11 (by decide) dX3_longestWait_92 ?_
    refine zs_sub [1, 2, 3, 0] rfl ?_
    exact hs11 (x1, x2, x3 + (1 : Int32))
  · refine zs_aload_n hE 0 rfl rfl dX3_longestWait_35 ?_
    refine zs_iload_n hE 3 rfl rfl dX3_longestWait_36 ?_
    refine zs_iload hE 4 rfl dX3_longestWait_37 ?_
    refine zs_iconst hE (v := (4 : Int32)) (by decide) dX3_longestWait_39 ?_
    refine zs_callV hE (As := [.int x3, .int x4, .int (4 : Int32)]) (encA := encI) (ci := 35) rfl (fun y0 => met_X3_qv K y0 x3 x4 (4 : Int32)) q3001 q105 q2998 q3000 (zq qs62) hd_X3_qv (by decide) (by decide) rfl (by simp [zcat_rf, zcat_i, zcat_j, zcat_f, zcat_d]) (fun z hz => by cases hz) dX3_longestWait_40 (fun r5 => ?_)
    show zS _ 43 _ [.int r5] _
    refine zs_istore hE (i := 5) (by decide) (rfl) (lv' := [(0, va_rf (some x0)), (1, .int x1), (2, .int x2), (3, .int x3), (4, .int x4)]) rfl dX3_longestWait_43 ?_
    refine zs_aload_n hE 1 rfl rfl dX3_longestWait_45 ?_
    refine zs_iload_n hE 4 rfl rfl dX3_longestWait_46 ?_
    refine zs_iload hE 5 rfl dX3_longestWait_47 ?_
    refine zs_iconst hE (v := (0 : Int32)) (by decide) dX3_longestWait_49 ?_
    refine zs_callV hE (As := [.int x3, .int x4, .int (0 : Int32)]) (encA := encI) (ci := 35) rfl (fun y0 => met_X3_qv K y0 x3 x4 (0 : Int32)) q3001 q105 q2998 q3000 (zq qs62) hd_X3_qv (by decide) (by decide) rfl (by simp [zcat_rf, zcat_i, zcat_j, zcat_f, zcat_d]) (fun z hz => by cases hz) dX3_longestWait_50 (fun r6 => ?_)
    show zS _ 53 _ [.int r6] _
    refine zs_istore hE (i := 6) (by decide) (rfl) (lv' := [(5, .int r5), (0, va_rf (some x0)), (1, .int x1), (2, .int x2), (3, .int x3), (4, .int x4)]) rfl dX3_longestWait_53 ?_
    refine zs_iload_n hE 3 rfl rfl dX3_longestWait_55 ?_
    refine zs_if_lt hE 77 (by decide) dX3_longestWait_56 ?_ ?_
    · refine zs_sub [2, 5, 6, 1, 0] rfl ?_
      exact sm_X3_longestWait_J77 hE x0 x3 x4 r5 r6 self11 self24 hs11 hs24
    · refine zs_iload hE 1 rfl dX3_longestWait_59 ?_
      refine zs_iload_n hE 4 rfl rfl dX3_longestWait_61 ?_
      refine zs_icmp_lt hE 77 (by decide) dX3_longestWait_62 ?_ ?_
      · refine zs_sub [2, 5, 6, 1, 0] rfl ?_
        exact sm_X3_longestWait_J77 hE x0 x3 x4 r5 r6 self11 self24 hs11 hs24
      · refine zs_iload hE 1 rfl dX3_longestWait_65 ?_
        refine zs_iload_n hE 4 rfl rfl dX3_longestWait_67 ?_
        refine zs_icmp_ne hE 83 (by decide) dX3_longestWait_68 ?_ ?_
        · refine zs_iload hE 0 rfl dX3_longestWait_71 ?_
          refine zs_iload_n hE 3 rfl rfl dX3_longestWait_73 ?_
          refine zs_icmp_ge hE 83 (by decide) dX3_longestWait_74 ?_ ?_
          · refine zs_iinc hE 6 (v := (1 : Int32)) rfl (by decide) (by decide) (rfl) (lv' := [(6, .int r6), (5, .int r5), (0, va_rf (some x0)), (1, .int x1), (2, .int x2), (3, .int x3)]) rfl dX3_longestWait_83 ?_
            refine zs_goto hE 24 (by decide) dX3_longestWait_86 ?_
            refine zs_sub [3, 4, 5, 6, 0] rfl ?_
            exact hs24 (x1, x2, x4 + (1 : Int32))
          · refine zs_sub [2, 5, 6, 1, 0] rfl ?_
            exact sm_X3_longestWait_J77 hE x0 x3 x4 r5 r6 self11 self24 hs11 hs24
        · refine zs_iinc hE 6 (v := (1 : Int32)) rfl (by decide) (by decide) (rfl) (lv' := [(6, .int r6), (5, .int r5), (0, va_rf (some x0)), (1, .int x1), (2, .int x2), (3, .int x3)]) rfl dX3_longestWait_83 ?_
          refine zs_goto hE 24 (by decide) dX3_longestWait_86 ?_
          refine zs_sub [3, 4, 5, 6, 0] rfl ?_
          exact hs24 (x1, x2, x4 + (1 : Int32))
theorem sm_X3_longestWait_L24 {x : ZX Int32} {K : ZK} (hE : zE x K cX3_longestWait RX3 "longestWait" 7 3 145 encI (Option.some Jvm.ClassFile.FieldType.int) []) (x0 : Nat) (x3 : Int32) (self11 : (Int32 × Int32 × Int32) → ZP Int32) (hs11 : ∀ v : Int32 × Int32 × Int32, zS x 11 [(0, va_rf (some x0)), (1, .int v.1), (2, .int v.2.1), (3, .int v.2.2)] [] (self11 v)) (v : Int32 × Int32 × Int32) : zS x 24 [(0, va_rf (some x0)), (1, .int v.1), (2, .int v.2.1), (3, .int x3), (4, .int v.2.2)] [] (s_X3_longestWait_L24 K x0 x3 self11 v) := by
  unfold s_X3_longestWait_L24
  exact zs_loop (lvf := fun v => [(0, va_rf (some x0)), (1, .int v.1), (2, .int v.2.1), (3, .int x3), (4, .int v.2.2)]) (fun self24 hs24 v => sm_X3_longestWait_B24 hE x0 x3 self11 self24 hs11 hs24 v.1 v.2.1 v.2.2) v
theorem sm_X3_longestWait_B11 {x : ZX Int32} {K : ZK} (hE : zE x K cX3_longestWait RX3 "longestWait" 7 3 145 encI (Option.some Jvm.ClassFile.FieldType.int) []) (x0 : Nat) (self11 : (Int32 × Int32 × Int32) → ZP Int32) (hs11 : ∀ v : Int32 × Int32 × Int32, zS x 11 [(0, va_rf (some x0)), (1, .int v.1), (2, .int v.2.1), (3, .int v.2.2)] [] (self11 v)) (x1 : Int32) (x2 : Int32) (x3 : Int32) : zS x 11 [(0, va_rf (some x0)), (1, .int x1), (2, .int x2), (3, .int x3)] [] (s_X3_longestWait_B11 K x0 self11 x1 x2 x3) := by
  unfold s_X3_longestWait_B11
  refine zs_iload_n hE 3 rfl rfl dX3_longestWait_11 ?_
  refine zs_aload_n hE 0 rfl rfl dX3_longestWait_12 ?_
  refine zs_getR hE (ci := 35) (k := 0) rfl (by decide) in_X3 (Or.inl q2829) (Or.inl rfl) dX3_longestWait_13 (fun v1 => ?_)
  refine zs_iconst hE (v := (1 : Int32)) (by decide) dX3_longestWait_16 ?_
  refine zs_ald hE dX3_longestWait_17 (fun v2 => ?_)
  refine zs_icmp_ge hE 95 (by decide) dX3_longestWait_18 ?_ ?_
  · refine zs_iload_n hE 1 rfl rfl dX3_longestWait_95 ?_
    refine zs_if_ge hE 107 (by decide) dX3_longestWait_96 ?_ ?_
    · refine zs_iload_n hE 1 rfl rfl dX3_longestWait_107 ?_
      exact zs_iret hE dX3_longestWait_108
    · refine zs_aload_n hE 0 rfl rfl dX3_longestWait_99 ?_
      refine zs_iconst hE (v := (1 : Int32)) (by decide) dX3_longestWait_100 ?_
      refine zs_callV hE (As := [.int (1 : Int32)]) (encA := encI) (ci := 35) rfl (fun y0 => met_X3_no K y0 (1 : Int32)) q2953 q105 q2950 q2952 (zq qs52) hd_X3_no (by decide) (by decide) rfl (by simp [zcat_rf, zcat_i, zcat_j, zcat_f, zcat_d]) (fun z hz => by cases hz) dX3_longestWait_101 (fun r3 => ?_)
      show zS _ 104 _ [.int r3] _
      refine zs_goto hE 108 (by decide) dX3_longestWait_104 ?_
      exact zs_iret hE dX3_longestWait_108
  · refine zs_iconst hE (v := (0 : Int32)) (by decide) dX3_longestWait_21 ?_
    refine zs_istore hE (i := 4) (by decide) (rfl) (lv' := [(0, va_rf (some x0)), (1, .int x1), (2, .int x2), (3, .int x3)]) rfl dX3_longestWait_22 ?_
    refine zs_sub [1, 2, 3, 4, 0] rfl ?_
    exact sm_X3_longestWait_L24 hE x0 x3 self11 hs11 (x1, x2, (0 : Int32))
theorem sm_X3_longestWait_L11 {x : ZX Int32} {K : ZK} (hE : zE x K cX3_longestWait RX3 "longestWait" 7 3 145 encI (Option.some Jvm.ClassFile.FieldType.int) []) (x0 : Nat) (v : Int32 × Int32 × Int32) : zS x 11 [(0, va_rf (some x0)), (1, .int v.1), (2, .int v.2.1), (3, .int v.2.2)] [] (s_X3_longestWait_L11 K x0 v) := by
  unfold s_X3_longestWait_L11
  exact zs_loop (lvf := fun v => [(0, va_rf (some x0)), (1, .int v.1), (2, .int v.2.1), (3, .int v.2.2)]) (fun self11 hs11 v => sm_X3_longestWait_B11 hE x0 self11 hs11 v.1 v.2.1 v.2.2) v
theorem sm_X3_longestWait {x : ZX Int32} {K : ZK} (hE : zE x K cX3_longestWait RX3 "longestWait" 7 3 145 encI (Option.some Jvm.ClassFile.FieldType.int) []) (this : Nat) : zS x 0 [(0, va_rf (some this))] [] (s_X3_longestWait K this) := by
  unfold s_X3_longestWait
  refine zs_aload_n hE 0 rfl rfl dX3_longestWait_0 ?_
  refine zs_iconst hE (v := (0 : Int32)) (by decide) dX3_longestWait_1 ?_
  refine zs_putI hE (ci := 35) (k := 5) rfl (by decide) in_X3 (Or.inl q2834) (Or.inl rfl) (Or.inl rfl) (fun h => nomatch h) rfl dX3_longestWait_2 ?_
  refine zs_iconst hE (v := (-1 : Int32)) (by decide) dX3_longestWait_5 ?_
  refine zs_istore_n hE (i := 1) (q := 1) rfl (by decide) (zcat_rf (some this)) (lv' := [(0, va_rf (some this))]) rfl dX3_longestWait_6 ?_
  refine zs_iconst hE (v := (0 : Int32)) (by decide) dX3_longestWait_7 ?_
  refine zs_istore_n hE (i := 2) (q := 2) rfl (by decide) (rfl) (lv' := [(1, .int (-1 : Int32)), (0, va_rf (some this))]) rfl dX3_longestWait_8 ?_
  refine zs_iconst hE (v := (0 : Int32)) (by decide) dX3_longestWait_9 ?_
  refine zs_istore_n hE (i := 3) (q := 3) rfl (by decide) (rfl) (lv' := [(2, .int (0 : Int32)), (1, .int (-1 : Int32)), (0, va_rf (some this))]) rfl dX3_longestWait_10 ?_
  refine zs_sub [3, 2, 1, 0] rfl ?_
  exact sm_X3_longestWait_L11 hE this ((-1 : Int32), (0 : Int32), (0 : Int32))
theorem hd_X3_longestWait : (yX3_longestWait).cls ≠ "java/lang/invoke/MethodHandle" ∧ (yX3_longestWait).cls ≠ "java/lang/invoke/VarHandle" ∧ (parseMethodDescriptor (yX3_longestWait).desc).map (fun d => d.parameters.length) = some 0 := by decide +kernel
theorem met_X3_longestWait (K : ZK) (this : Nat) : zMeth K yX3_longestWait (zws yX3_longestWait cX3_longestWait 7 (Option.some Jvm.ClassFile.FieldType.int)) 3 145 [.ref this] encI (s_X3_longestWait K this) :=
  fun l G hl hK => zmet_of hl hK (by decide +kernel) rfl rfl (by simp [zsl_nil, zsl_rf, zsl_r, zsl_i, zsl_j, zsl_f, zsl_d]) (fun x hE => by simp only [zla_nil, zla_rf, zla_r, zla_i, zla_j, zla_f, zla_d, Nat.reduceAdd]; exact sm_X3_longestWait hE this)
theorem sm_X3_greatest_B9 {x : ZX Int32} {K : ZK} (hE : zE x K cX3_greatest RX3 "greatest" 3 4 166 encI (Option.some Jvm.ClassFile.FieldType.int) []) (x0 : Nat) (self9 : (Int32 × Int32) → ZP Int32) (hs9 : ∀ v : Int32 × Int32, zS x 9 [(0, va_rf (some x0)), (1, .int v.1), (2, .int v.2)] [] (self9 v)) (x1 : Int32) (x2 : Int32) : zS x 9 [(0, va_rf (some x0)), (1, .int x1), (2, .int x2)] [] (s_X3_greatest_B9 K x0 self9 x1 x2) := by
  unfold s_X3_greatest_B9
  refine zs_iload_n hE 2 rfl rfl dX3_greatest_9 ?_
  refine zs_aload_n hE 0 rfl rfl dX3_greatest_10 ?_
  refine zs_getR hE (ci := 35) (k := 0) rfl (by decide) in_X3 (Or.inl q2829) (Or.inl rfl) dX3_greatest_11 (fun v1 => ?_)
  refine zs_iconst hE (v := (1 : Int32)) (by decide) dX3_greatest_14 ?_
  refine zs_ald hE dX3_greatest_15 (fun v2 => ?_)
  refine zs_icmp_ge hE 52 (by decide) dX3_greatest_16 ?_ ?_
  · refine zs_iload_n hE 1 rfl rfl dX3_greatest_52 ?_
    refine zs_if_ge hE 64 (by decide) dX3_greatest_53 ?_ ?_
    · refine zs_aload_n hE 0 rfl rfl dX3_greatest_64 ?_
      refine zs_iload_n hE 1 rfl rfl dX3_greatest_65 ?_
      refine zs_iconst hE (v := (0 : Int32)) (by decide) dX3_greatest_66 ?_
      refine zs_callV hE (As := [.int x1, .int (0 : Int32)]) (encA := encI) (ci := 35) rfl (fun y0 => met_X3_sv K y0 x1 (0 : Int32)) q2945 q105 q2942 q2944 (zq qs50) hd_X3_sv (by decide) (by decide) rfl (by simp [zcat_rf, zcat_i, zcat_j, zcat_f, zcat_d]) (fun z hz => by cases hz) dX3_greatest_67 (fun r3 => ?_)
      show zS _ 70 _ [.int r3] _
      exact zs_iret hE dX3_greatest_70
    · refine zs_aload_n hE 0 rfl rfl dX3_greatest_56 ?_
      refine zs_iconst hE (v := (1 : Int32)) (by decide) dX3_greatest_57 ?_
      refine zs_callV hE (As := [.int (1 : Int32)]) (encA := encI) (ci := 35) rfl (fun y0 => met_X3_no K y0 (1 : Int32)) q2953 q105 q2950 q2952 (zq qs52) hd_X3_no (by decide) (by decide) rfl (by simp [zcat_rf, zcat_i, zcat_j, zcat_f, zcat_d]) (fun z hz => by cases hz) dX3_greatest_58 (fun r4 => ?_)
      show zS _ 61 _ [.int r4] _
      refine zs_goto hE 70 (by decide) dX3_greatest_61 ?_
      exact zs_iret hE dX3_greatest_70
  · refine zs_aload_n hE 0 rfl rfl dX3_greatest_19 ?_
    refine zs_iload_n hE 2 rfl rfl dX3_greatest_20 ?_
    refine zs_callV hE (As := [.int x2]) (encA := encI) (ci := 35) rfl (fun y0 => met_X3_firstRank K y0 x2) q3115 q105 q3112 q3114 (zq qs78) hd_X3_firstRank (by decide) (by decide) rfl (by simp [zcat_rf, zcat_i, zcat_j, zcat_f, zcat_d]) (fun z hz => by cases hz) dX3_greatest_21 (fun r5 => ?_)
    show zS _ 24 _ [.int r5] _
    refine zs_if_lt hE 46 (by decide) dX3_greatest_24 ?_ ?_
    · refine zs_iinc hE 2 (v := (1 : Int32)) rfl (by decide) (by decide) (rfl) (lv' := [(0, va_rf (some x0)), (1, .int x1)]) rfl dX3_greatest_46 ?_
      refine zs_goto hE 9 (by decide) dX3_greatest_49 ?_
      refine zs_sub [1, 2, 0] rfl ?_
      exact hs9 (x1, x2 + (1 : Int32))
    · refine zs_iload_n hE 1 rfl rfl dX3_greatest_27 ?_
      refine zs_if_lt hE 44 (by decide) dX3_greatest_28 ?_ ?_
      · refine zs_iload_n hE 2 rfl rfl dX3_greatest_44 ?_
        refine zs_istore_n hE (i := 1) (q := 1) rfl (by decide) (zcat_rf (some x0)) (lv' := [(0, va_rf (some x0)), (2, .int x2)]) rfl dX3_greatest_45 ?_
        refine zs_iinc hE 2 (v := (1 : Int32)) rfl (by decide) (by decide) (rfl) (lv' := [(1, .int x2), (0, va_rf (some x0))]) rfl dX3_greatest_46 ?_
        refine zs_goto hE 9 (by decide) dX3_greatest_49 ?_
        refine zs_sub [2, 1, 0] rfl ?_
        exact hs9 (x2, x2 + (1 : Int32))
      · refine zs_aload_n hE 0 rfl rfl dX3_greatest_31 ?_
        refine zs_iload_n hE 2 rfl rfl dX3_greatest_32 ?_
        refine zs_callV hE (As := [.int x2]) (encA := encI) (ci := 35) rfl (fun y0 => met_X3_firstRank K y0 x2) q3115 q105 q3112 q3114 (zq qs78) hd_X3_firstRank (by decide) (by decide) rfl (by simp [zcat_rf, zcat_i, zcat_j, zcat_f, zcat_d]) (fun z hz => by cases hz) dX3_greatest_33 (fun r6 => ?_)
        show zS _ 36 _ [.int r6] _
        refine zs_aload_n hE 0 rfl rfl dX3_greatest_36 ?_
        refine zs_iload_n hE 1 rfl rfl dX3_greatest_37 ?_
        refine zs_callV hE (As := [.int x1]) (encA := encI) (ci := 35) rfl (fun y0 => met_X3_firstRank K y0 x1) q3115 q105 q3112 q3114 (zq qs78) hd_X3_firstRank (by decide) (by decide) rfl (by simp [zcat_rf, zcat_i, zcat_j, zcat_f, zcat_d]) (fun z hz => by cases hz) dX3_greatest_38 (fun r7 => ?_)
        show zS _ 41 _ [.int r7, .int r6] _
        refine zs_icmp_le hE 46 (by decide) dX3_greatest_41 ?_ ?_
        · refine zs_iinc hE 2 (v := (1 : Int32)) rfl (by decide) (by decide) (rfl) (lv' := [(0, va_rf (some x0)), (1, .int x1)]) rfl dX3_greatest_46 ?_
          refine zs_goto hE 9 (by decide) dX3_greatest_49 ?_
          refine zs_sub [1, 2, 0] rfl ?_
          exact hs9 (x1, x2 + (1 : Int32))
        · refine zs_iload_n hE 2 rfl rfl dX3_greatest_44 ?_
          refine zs_istore_n hE (i := 1) (q := 1) rfl (by decide) (zcat_rf (some x0)) (lv' := [(0, va_rf (some x0)), (2, .int x2)]) rfl dX3_greatest_45 ?_
          refine zs_iinc hE 2 (v := (1 : Int32)) rfl (by decide) (by decide) (rfl) (lv' := [(1, .int x2), (0, va_rf (some x0))]) rfl dX3_greatest_46 ?_
          refine zs_goto hE 9 (by decide) dX3_greatest_49 ?_
          refine zs_sub [2, 1, 0] rfl ?_
          exact hs9 (x2, x2 + (1 : Int32))
theorem sm_X3_greatest_L9 {x : ZX Int32} {K : ZK} (hE : zE x K cX3_greatest RX3 "greatest" 3 4 166 encI (Option.some Jvm.ClassFile.FieldType.int) []) (x0 : Nat) (v : Int32 × Int32) : zS x 9 [(0, va_rf (some x0)), (1, .int v.1), (2, .int v.2)] [] (s_X3_greatest_L9 K x0 v) := by
  unfold s_X3_greatest_L9
  exact zs_loop (lvf := fun v => [(0, va_rf (some x0)), (1, .int v.1), (2, .int v.2)]) (fun self9 hs9 v => sm_X3_greatest_B9 hE x0 self9 hs9 v.1 v.2) v
theorem sm_X3_greatest {x : ZX Int32} {K : ZK} (hE : zE x K cX3_greatest RX3 "greatest" 3 4 166 encI (Option.some Jvm.ClassFile.FieldType.int) []) (this : Nat) : zS x 0 [(0, va_rf (some this))] [] (s_X3_greatest K this) := by
  unfold s_X3_greatest
  refine zs_aload_n hE 0 rfl rfl dX3_greatest_0 ?_
  refine zs_iconst hE (v := (0 : Int32)) (by decide) dX3_greatest_1 ?_
  refine zs_putI hE (ci := 35) (k := 5) rfl (by decide) in_X3 (Or.inl q2834) (Or.inl rfl) (Or.inl rfl) (fun h => nomatch h) rfl dX3_greatest_2 ?_
  refine zs_iconst hE (v := (-1 : Int32)) (by decide) dX3_greatest_5 ?_
  refine zs_istore_n hE (i := 1) (q := 1) rfl (by decide) (zcat_rf (some this)) (lv' := [(0, va_rf (some this))]) rfl dX3_greatest_6 ?_
  refine zs_iconst hE (v := (0 : Int32)) (by decide) dX3_greatest_7 ?_
  refine zs_istore_n hE (i := 2) (q := 2) rfl (by decide) (rfl) (lv' := [(1, .int (-1 : Int32)), (0, va_rf (some this))]) rfl dX3_greatest_8 ?_
  refine zs_sub [2, 1, 0] rfl ?_
  exact sm_X3_greatest_L9 hE this ((-1 : Int32), (0 : Int32))
theorem hd_X3_greatest : (yX3_greatest).cls ≠ "java/lang/invoke/MethodHandle" ∧ (yX3_greatest).cls ≠ "java/lang/invoke/VarHandle" ∧ (parseMethodDescriptor (yX3_greatest).desc).map (fun d => d.parameters.length) = some 0 := by decide +kernel
theorem met_X3_greatest (K : ZK) (this : Nat) : zMeth K yX3_greatest (zws yX3_greatest cX3_greatest 3 (Option.some Jvm.ClassFile.FieldType.int)) 4 166 [.ref this] encI (s_X3_greatest K this) :=
  fun l G hl hK => zmet_of hl hK (by decide +kernel) rfl rfl (by simp [zsl_nil, zsl_rf, zsl_r, zsl_i, zsl_j, zsl_f, zsl_d]) (fun x hE => by simp only [zla_nil, zla_rf, zla_r, zla_i, zla_j, zla_f, zla_d, Nat.reduceAdd]; exact sm_X3_greatest hE this)
theorem sm_X3_waiting {x : ZX Int32} {K : ZK} (hE : zE x K cX3_waiting RX3 "waiting" 1 3 144 encI (Option.some Jvm.ClassFile.FieldType.int) []) (this : Nat) : zS x 0 [(0, va_rf (some this))] [] (s_X3_waiting K this) := by
  unfold s_X3_waiting
  refine zs_aload_n hE 0 rfl rfl dX3_waiting_0 ?_
  refine zs_iconst hE (v := (0 : Int32)) (by decide) dX3_waiting_1 ?_
  refine zs_putI hE (ci := 35) (k := 5) rfl (by decide) in_X3 (Or.inl q2834) (Or.inl rfl) (Or.inl rfl) (fun h => nomatch h) rfl dX3_waiting_2 ?_
  refine zs_aload_n hE 0 rfl rfl dX3_waiting_5 ?_
  refine zs_callV hE (As := []) (encA := encI) (ci := 35) rfl (fun y0 => met_X3_allWaiting K y0) q3029 q105 q3026 q3028 (zq qs66) hd_X3_allWaiting (by decide) (by decide) rfl (by simp [zcat_rf, zcat_i, zcat_j, zcat_f, zcat_d]) (fun z hz => by cases hz) dX3_waiting_6 (fun r1 => ?_)
  show zS _ 9 _ [.int r1] _
  exact zs_iret hE dX3_waiting_9
theorem hd_X3_waiting : (yX3_waiting).cls ≠ "java/lang/invoke/MethodHandle" ∧ (yX3_waiting).cls ≠ "java/lang/invoke/VarHandle" ∧ (parseMethodDescriptor (yX3_waiting).desc).map (fun d => d.parameters.length) = some 0 := by decide +kernel
theorem met_X3_waiting (K : ZK) (this : Nat) : zMeth K yX3_waiting (zws yX3_waiting cX3_waiting 1 (Option.some Jvm.ClassFile.FieldType.int)) 3 144 [.ref this] encI (s_X3_waiting K this) :=
  fun l G hl hK => zmet_of hl hK (by decide +kernel) rfl rfl (by simp [zsl_nil, zsl_rf, zsl_r, zsl_i, zsl_j, zsl_f, zsl_d]) (fun x hE => by simp only [zla_nil, zla_rf, zla_r, zla_i, zla_j, zla_f, zla_d, Nat.reduceAdd]; exact sm_X3_waiting hE this)
theorem sm_X3_waitingAgain {x : ZX Int32} {K : ZK} (hE : zE x K cX3_waitingAgain RX3 "waitingAgain" 1 3 144 encI (Option.some Jvm.ClassFile.FieldType.int) []) (this : Nat) : zS x 0 [(0, va_rf (some this))] [] (s_X3_waitingAgain K this) := by
  unfold s_X3_waitingAgain
  refine zs_aload_n hE 0 rfl rfl dX3_waitingAgain_0 ?_
  refine zs_iconst hE (v := (0 : Int32)) (by decide) dX3_waitingAgain_1 ?_
  refine zs_putI hE (ci := 35) (k := 5) rfl (by decide) in_X3 (Or.inl q2834) (Or.inl rfl) (Or.inl rfl) (fun h => nomatch h) rfl dX3_waitingAgain_2 ?_
  refine zs_aload_n hE 0 rfl rfl dX3_waitingAgain_5 ?_
  refine zs_callV hE (As := []) (encA := encI) (ci := 35) rfl (fun y0 => met_X3_allWaiting K y0) q3029 q105 q3026 q3028 (zq qs66) hd_X3_allWaiting (by decide) (by decide) rfl (by simp [zcat_rf, zcat_i, zcat_j, zcat_f, zcat_d]) (fun z hz => by cases hz) dX3_waitingAgain_6 (fun r1 => ?_)
  show zS _ 9 _ [.int r1] _
  exact zs_iret hE dX3_waitingAgain_9
theorem hd_X3_waitingAgain : (yX3_waitingAgain).cls ≠ "java/lang/invoke/MethodHandle" ∧ (yX3_waitingAgain).cls ≠ "java/lang/invoke/VarHandle" ∧ (parseMethodDescriptor (yX3_waitingAgain).desc).map (fun d => d.parameters.length) = some 0 := by decide +kernel
theorem met_X3_waitingAgain (K : ZK) (this : Nat) : zMeth K yX3_waitingAgain (zws yX3_waitingAgain cX3_waitingAgain 1 (Option.some Jvm.ClassFile.FieldType.int)) 3 144 [.ref this] encI (s_X3_waitingAgain K this) :=
  fun l G hl hK => zmet_of hl hK (by decide +kernel) rfl rfl (by simp [zsl_nil, zsl_rf, zsl_r, zsl_i, zsl_j, zsl_f, zsl_d]) (fun x hE => by simp only [zla_nil, zla_rf, zla_r, zla_i, zla_j, zla_f, zla_d, Nat.reduceAdd]; exact sm_X3_waitingAgain hE this)
theorem sm_X3_append {x : ZX Int32} {K : ZK} (hE : zE x K cX3_append RX3 "append" 2 2 122 encI (Option.some Jvm.ClassFile.FieldType.int) []) (this : Nat) (a1 : Int32) : zS x 0 [(0, va_rf (some this)), (1, .int a1)] [] (s_X3_append K this a1) := by
  unfold s_X3_append
  refine zs_aload_n hE 0 rfl rfl dX3_append_0 ?_
  refine zs_iconst hE (v := (0 : Int32)) (by decide) dX3_append_1 ?_
  refine zs_putI hE (ci := 35) (k := 5) rfl (by decide) in_X3 (Or.inl q2834) (Or.inl rfl) (Or.inl rfl) (fun h => nomatch h) rfl dX3_append_2 ?_
  refine zs_iload_n hE 1 rfl rfl dX3_append_5 ?_
  refine zs_bipush hE (v := (33 : Int32)) (by decide) dX3_append_6 ?_
  refine zs_bipush hE (v := (126 : Int32)) (by decide) dX3_append_8 ?_
  refine zs_callS hE (As := [.int a1, .int (33 : Int32), .int (126 : Int32)]) (encA := encI) (met_X3_in K a1 (33 : Int32) (126 : Int32)) q2933 q105 q2931 q2932 hd_X3_in (by decide) (by decide) rfl (by simp [zcat_rf, zcat_i, zcat_j, zcat_f, zcat_d]) (fun z hz => by cases hz) dX3_append_10 (fun r1 => ?_)
  show zS _ 13 _ [.int r1] _
  refine zs_if_ne hE 22 (by decide) dX3_append_13 ?_ ?_
  · refine zs_aload_n hE 0 rfl rfl dX3_append_16 ?_
    refine zs_iconst hE (v := (1 : Int32)) (by decide) dX3_append_17 ?_
    refine zs_callV hE (As := [.int (1 : Int32)]) (encA := encI) (ci := 35) rfl (fun y0 => met_X3_no K y0 (1 : Int32)) q2953 q105 q2950 q2952 (zq qs52) hd_X3_no (by decide) (by decide) rfl (by simp [zcat_rf, zcat_i, zcat_j, zcat_f, zcat_d]) (fun z hz => by cases hz) dX3_append_18 (fun r2 => ?_)
    show zS _ 21 _ [.int r2] _
    exact zs_iret hE dX3_append_21
  · refine zs_aload_n hE 0 rfl rfl dX3_append_22 ?_
    refine zs_getI hE (ci := 35) (k := 20) rfl (by decide) in_X3 (Or.inl q2849) (Or.inl rfl) dX3_append_23 (fun v3 => ?_)
    refine zs_bipush hE (v := (60 : Int32)) (by decide) dX3_append_26 ?_
    refine zs_icmp_ne hE 37 (by decide) dX3_append_28 ?_ ?_
    · refine zs_aload_n hE 0 rfl rfl dX3_append_31 ?_
      refine zs_iconst hE (v := (2 : Int32)) (by decide) dX3_append_32 ?_
      refine zs_callV hE (As := [.int (2 : Int32)]) (encA := encI) (ci := 35) rfl (fun y0 => met_X3_no K y0 (2 : Int32)) q2953 q105 q2950 q2952 (zq qs52) hd_X3_no (by decide) (by decide) rfl (by simp [zcat_rf, zcat_i, zcat_j, zcat_f, zcat_d]) (fun z hz => by cases hz) dX3_append_33 (fun r4 => ?_)
      show zS _ 36 _ [.int r4] _
      exact zs_iret hE dX3_append_36
    · refine zs_aload_n hE 0 rfl rfl dX3_append_37 ?_
      refine zs_getR hE (ci := 35) (k := 15) rfl (by decide) in_X3 (Or.inl q2844) (Or.inl rfl) dX3_append_38 (fun v5 => ?_)
      refine zs_aload_n hE 0 rfl rfl dX3_append_41 ?_
      refine zs_getI hE (ci := 35) (k := 20) rfl (by decide) in_X3 (Or.inl q2849) (Or.inl rfl) dX3_append_42 (fun v6 => ?_)
      refine zs_iload_n hE 1 rfl rfl dX3_append_45 ?_
      refine zs_ast hE dX3_append_46 ?_
      refine zs_aload_n hE 0 rfl rfl dX3_append_47 ?_
      refine zs_dup hE (zcat_rf _) dX3_append_48 ?_
      refine zs_getI hE (ci := 35) (k := 20) rfl (by decide) in_X3 (Or.inl q2849) (Or.inl rfl) dX3_append_49 (fun v7 => ?_)
      refine zs_iconst hE (v := (1 : Int32)) (by decide) dX3_append_52 ?_
      refine zs_iadd hE dX3_append_53 ?_
      refine zs_putI hE (ci := 35) (k := 20) rfl (by decide) in_X3 (Or.inl q2849) (Or.inl rfl) (Or.inl rfl) (fun h => nomatch h) rfl dX3_append_54 ?_
      refine zs_aload_n hE 0 rfl rfl dX3_append_57 ?_
      refine zs_getI hE (ci := 35) (k := 20) rfl (by decide) in_X3 (Or.inl q2849) (Or.inl rfl) dX3_append_58 (fun v8 => ?_)
      exact zs_iret hE dX3_append_61
theorem hd_X3_append : (yX3_append).cls ≠ "java/lang/invoke/MethodHandle" ∧ (yX3_append).cls ≠ "java/lang/invoke/VarHandle" ∧ (parseMethodDescriptor (yX3_append).desc).map (fun d => d.parameters.length) = some 1 := by decide +kernel
theorem met_X3_append (K : ZK) (this : Nat) (a1 : Int32) : zMeth K yX3_append (zws yX3_append cX3_append 2 (Option.some Jvm.ClassFile.FieldType.int)) 2 122 [.ref this, .int a1] encI (s_X3_append K this a1) :=
  fun l G hl hK => zmet_of hl hK (by decide +kernel) rfl rfl (by simp [zsl_nil, zsl_rf, zsl_r, zsl_i, zsl_j, zsl_f, zsl_d]) (fun x hE => by simp only [zla_nil, zla_rf, zla_r, zla_i, zla_j, zla_f, zla_d, Nat.reduceAdd]; exact sm_X3_append hE this a1)
theorem sm_X3_sign {x : ZX Int32} {K : ZK} (hE : zE x K cX3_sign RX3 "sign" 1 1 100 encI (Option.some Jvm.ClassFile.FieldType.int) []) (this : Nat) : zS x 0 [(0, va_rf (some this))] [] (s_X3_sign K this) := by
  unfold s_X3_sign
  refine zs_aload_n hE 0 rfl rfl dX3_sign_0 ?_
  refine zs_getI hE (ci := 35) (k := 23) rfl (by decide) in_X3 (Or.inl q2852) (Or.inl rfl) dX3_sign_1 (fun v1 => ?_)
  refine zs_if_ne hE 30 (by decide) dX3_sign_4 ?_ ?_
  · refine zs_aload_n hE 0 rfl rfl dX3_sign_7 ?_
    refine zs_getI hE (ci := 35) (k := 21) rfl (by decide) in_X3 (Or.inl q2850) (Or.inl rfl) dX3_sign_8 (fun v2 => ?_)
    refine zs_aload_n hE 0 rfl rfl dX3_sign_11 ?_
    refine zs_getI hE (ci := 35) (k := 20) rfl (by decide) in_X3 (Or.inl q2849) (Or.inl rfl) dX3_sign_12 (fun v3 => ?_)
    refine zs_icmp_ge hE 30 (by decide) dX3_sign_15 ?_ ?_
    · refine zs_iconst hE (v := (-1 : Int32)) (by decide) dX3_sign_30 ?_
      exact zs_iret hE dX3_sign_31
    · refine zs_aload_n hE 0 rfl rfl dX3_sign_18 ?_
      refine zs_getR hE (ci := 35) (k := 15) rfl (by decide) in_X3 (Or.inl q2844) (Or.inl rfl) dX3_sign_19 (fun v4 => ?_)
      refine zs_aload_n hE 0 rfl rfl dX3_sign_22 ?_
      refine zs_getI hE (ci := 35) (k := 21) rfl (by decide) in_X3 (Or.inl q2850) (Or.inl rfl) dX3_sign_23 (fun v5 => ?_)
      refine zs_ald hE dX3_sign_26 (fun v6 => ?_)
      refine zs_goto hE 31 (by decide) dX3_sign_27 ?_
      exact zs_iret hE dX3_sign_31
  · refine zs_iconst hE (v := (-1 : Int32)) (by decide) dX3_sign_30 ?_
    exact zs_iret hE dX3_sign_31
theorem hd_X3_sign : (yX3_sign).cls ≠ "java/lang/invoke/MethodHandle" ∧ (yX3_sign).cls ≠ "java/lang/invoke/VarHandle" ∧ (parseMethodDescriptor (yX3_sign).desc).map (fun d => d.parameters.length) = some 0 := by decide +kernel
theorem met_X3_sign (K : ZK) (this : Nat) : zMeth K yX3_sign (zws yX3_sign cX3_sign 1 (Option.some Jvm.ClassFile.FieldType.int)) 1 100 [.ref this] encI (s_X3_sign K this) :=
  fun l G hl hK => zmet_of hl hK (by decide +kernel) rfl rfl (by simp [zsl_nil, zsl_rf, zsl_r, zsl_i, zsl_j, zsl_f, zsl_d]) (fun x hE => by simp only [zla_nil, zla_rf, zla_r, zla_i, zla_j, zla_f, zla_d, Nat.reduceAdd]; exact sm_X3_sign hE this)
theorem sm_X3_takesSign {x : ZX Unit} {K : ZK} (hE : zE x K cX3_takesSign RX3 "takesSign" 2 2 120 encV none []) (this : Nat) (a1 : Int32) : zS x 0 [(0, va_rf (some this)), (1, .int a1)] [] (s_X3_takesSign K this a1) := by
  unfold s_X3_takesSign
  refine zs_aload_n hE 0 rfl rfl dX3_takesSign_0 ?_
  refine zs_callV hE (As := []) (encA := encI) (ci := 35) rfl (fun y0 => met_X3_sign K y0) q3211 q105 q3208 q3210 (zq qs86) hd_X3_sign (by decide) (by decide) rfl (by simp [zcat_rf, zcat_i, zcat_j, zcat_f, zcat_d]) (fun z hz => by cases hz) dX3_takesSign_1 (fun r1 => ?_)
  show zS _ 4 _ [.int r1] _
  refine zs_iload_n hE 1 rfl rfl dX3_takesSign_4 ?_
  refine zs_icmp_ne hE 21 (by decide) dX3_takesSign_5 ?_ ?_
  · refine zs_aload_n hE 0 rfl rfl dX3_takesSign_8 ?_
    refine zs_dup hE (zcat_rf _) dX3_takesSign_9 ?_
    refine zs_getI hE (ci := 35) (k := 21) rfl (by decide) in_X3 (Or.inl q2850) (Or.inl rfl) dX3_takesSign_10 (fun v2 => ?_)
    refine zs_iconst hE (v := (1 : Int32)) (by decide) dX3_takesSign_13 ?_
    refine zs_iadd hE dX3_takesSign_14 ?_
    refine zs_putI hE (ci := 35) (k := 21) rfl (by decide) in_X3 (Or.inl q2850) (Or.inl rfl) (Or.inl rfl) (fun h => nomatch h) rfl dX3_takesSign_15 ?_
    refine zs_goto hE 26 (by decide) dX3_takesSign_18 ?_
    exact zs_vret hE dX3_takesSign_26
  · refine zs_aload_n hE 0 rfl rfl dX3_takesSign_21 ?_
    refine zs_iconst hE (v := (1 : Int32)) (by decide) dX3_takesSign_22 ?_
    refine zs_putT hE (ci := 35) (k := 23) rfl (by decide) in_X3 (Or.inl q2852) (Or.inl rfl) (Or.inl rfl) (fun h => nomatch h) rfl dX3_takesSign_23 ?_
    exact zs_vret hE dX3_takesSign_26
theorem hd_X3_takesSign : (yX3_takesSign).cls ≠ "java/lang/invoke/MethodHandle" ∧ (yX3_takesSign).cls ≠ "java/lang/invoke/VarHandle" ∧ (parseMethodDescriptor (yX3_takesSign).desc).map (fun d => d.parameters.length) = some 1 := by decide +kernel
theorem met_X3_takesSign (K : ZK) (this : Nat) (a1 : Int32) : zMeth K yX3_takesSign (zws yX3_takesSign cX3_takesSign 2 none) 2 120 [.ref this, .int a1] encV (s_X3_takesSign K this a1) :=
  fun l G hl hK => zmet_of hl hK (by decide +kernel) rfl rfl (by simp [zsl_nil, zsl_rf, zsl_r, zsl_i, zsl_j, zsl_f, zsl_d]) (fun x hE => by simp only [zla_nil, zla_rf, zla_r, zla_i, zla_j, zla_f, zla_d, Nat.reduceAdd]; exact sm_X3_takesSign hE this a1)
theorem sm_X3_digit {x : ZX Int32} {K : ZK} (hE : zE x K cX3_digit RX3 "digit" 2 2 122 encI (Option.some Jvm.ClassFile.FieldType.int) []) (this : Nat) : zS x 0 [(0, va_rf (some this))] [] (s_X3_digit K this) := by
  unfold s_X3_digit
  refine zs_aload_n hE 0 rfl rfl dX3_digit_0 ?_
  refine zs_callV hE (As := []) (encA := encI) (ci := 35) rfl (fun y0 => met_X3_sign K y0) q3211 q105 q3208 q3210 (zq qs86) hd_X3_sign (by decide) (by decide) rfl (by simp [zcat_rf, zcat_i, zcat_j, zcat_f, zcat_d]) (fun z hz => by cases hz) dX3_digit_1 (fun r1 => ?_)
  show zS _ 4 _ [.int r1] _
  refine zs_istore_n hE (i := 1) (q := 1) rfl (by decide) (zcat_rf (some this)) (lv' := [(0, va_rf (some this))]) rfl dX3_digit_4 ?_
  refine zs_iload_n hE 0 rfl rfl dX3_digit_5 ?_
  refine zs_bipush hE (v := (48 : Int32)) (by decide) dX3_digit_6 ?_
  refine zs_bipush hE (v := (57 : Int32)) (by decide) dX3_digit_8 ?_
  refine zs_callS hE (As := [.int r1, .int (48 : Int32), .int (57 : Int32)]) (encA := encI) (met_X3_in K r1 (48 : Int32) (57 : Int32)) q2933 q105 q2931 q2932 hd_X3_in (by decide) (by decide) rfl (by simp [zcat_rf, zcat_i, zcat_j, zcat_f, zcat_d]) (fun z hz => by cases hz) dX3_digit_10 (fun r2 => ?_)
  show zS _ 13 _ [.int r2] _
  refine zs_if_ne hE 23 (by decide) dX3_digit_13 ?_ ?_
  · refine zs_aload_n hE 1 rfl rfl dX3_digit_16 ?_
    refine zs_iconst hE (v := (1 : Int32)) (by decide) dX3_digit_17 ?_
    refine zs_putT hE (ci := 35) (k := 23) rfl (by decide) in_X3 (Or.inl q2852) (Or.inl rfl) (Or.inl rfl) (fun h => nomatch h) rfl dX3_digit_18 ?_
    refine zs_iconst hE (v := (0 : Int32)) (by decide) dX3_digit_21 ?_
    exact zs_iret hE dX3_digit_22
  · refine zs_aload_n hE 1 rfl rfl dX3_digit_23 ?_
    refine zs_dup hE (zcat_rf _) dX3_digit_24 ?_
    refine zs_getI hE (ci := 35) (k := 21) rfl (by decide) in_X3 (Or.inl q2850) (Or.inl rfl) dX3_digit_25 (fun v3 => ?_)
    refine zs_iconst hE (v := (1 : Int32)) (by decide) dX3_digit_28 ?_
    refine zs_iadd hE dX3_digit_29 ?_
    refine zs_putI hE (ci := 35) (k := 21) rfl (by decide) in_X3 (Or.inl q2850) (Or.inl rfl) (Or.inl rfl) (fun h => nomatch h) rfl dX3_digit_30 ?_
    refine zs_iload_n hE 0 rfl rfl dX3_digit_33 ?_
    refine zs_bipush hE (v := (48 : Int32)) (by decide) dX3_digit_34 ?_
    refine zs_isub hE dX3_digit_36 ?_
    exact zs_iret hE dX3_digit_37
theorem hd_X3_digit : (yX3_digit).cls ≠ "java/lang/invoke/MethodHandle" ∧ (yX3_digit).cls ≠ "java/lang/invoke/VarHandle" ∧ (parseMethodDescriptor (yX3_digit).desc).map (fun d => d.parameters.length) = some 0 := by decide +kernel
theorem met_X3_digit (K : ZK) (this : Nat) : zMeth K yX3_digit (zws yX3_digit cX3_digit 2 (Option.some Jvm.ClassFile.FieldType.int)) 2 122 [.ref this] encI (s_X3_digit K this) :=
  fun l G hl hK => zmet_of hl hK (by decide +kernel) rfl rfl (by simp [zsl_nil, zsl_rf, zsl_r, zsl_i, zsl_j, zsl_f, zsl_d]) (fun x hE => by simp only [zla_nil, zla_rf, zla_r, zla_i, zla_j, zla_f, zla_d, Nat.reduceAdd]; exact sm_X3_digit hE this)
theorem sm_X3_figures {x : ZX Int32} {K : ZK} (hE : zE x K cX3_figures RX3 "figures" 2 3 143 encI (Option.some Jvm.ClassFile.FieldType.int) []) (this : Nat) : zS x 0 [(0, va_rf (some this))] [] (s_X3_figures K this) := by
  unfold s_X3_figures
  refine zs_aload_n hE 0 rfl rfl dX3_figures_0 ?_
  refine zs_callV hE (As := []) (encA := encI) (ci := 35) rfl (fun y0 => met_X3_digit K y0) q3219 q105 q3216 q3218 (zq qs88) hd_X3_digit (by decide) (by decide) rfl (by simp [zcat_rf, zcat_i, zcat_j, zcat_f, zcat_d]) (fun z hz => by cases hz) dX3_figures_1 (fun r1 => ?_)
  show zS _ 4 _ [.int r1] _
  refine zs_istore_n hE (i := 1) (q := 1) rfl (by decide) (zcat_rf (some this)) (lv' := [(0, va_rf (some this))]) rfl dX3_figures_4 ?_
  refine zs_aload_n hE 1 rfl rfl dX3_figures_5 ?_
  refine zs_callV hE (As := []) (encA := encI) (ci := 35) rfl (fun y0 => met_X3_sign K y0) q3211 q105 q3208 q3210 (zq qs86) hd_X3_sign (by decide) (by decide) rfl (by simp [zcat_rf, zcat_i, zcat_j, zcat_f, zcat_d]) (fun z hz => by cases hz) dX3_figures_6 (fun r2 => ?_)
  show zS _ 9 _ [.int r2] _
  refine zs_bipush hE (v := (48 : Int32)) (by decide) dX3_figures_9 ?_
  refine zs_bipush hE (v := (57 : Int32)) (by decide) dX3_figures_11 ?_
  refine zs_callS hE (As := [.int r2, .int (48 : Int32), .int (57 : Int32)]) (encA := encI) (met_X3_in K r2 (48 : Int32) (57 : Int32)) q2933 q105 q2931 q2932 hd_X3_in (by decide) (by decide) rfl (by simp [zcat_rf, zcat_i, zcat_j, zcat_f, zcat_d]) (fun z hz => by cases hz) dX3_figures_13 (fun r3 => ?_)
  show zS _ 16 _ [.int r3] _
  refine zs_if_eq hE 31 (by decide) dX3_figures_16 ?_ ?_
  · refine zs_iload_n hE 0 rfl rfl dX3_figures_31 ?_
    exact zs_iret hE dX3_figures_32
  · refine zs_bipush hE (v := (10 : Int32)) (by decide) dX3_figures_19 ?_
    refine zs_iload_n hE 0 rfl rfl dX3_figures_21 ?_
    refine zs_imul hE dX3_figures_22 ?_
    refine zs_aload_n hE 1 rfl rfl dX3_figures_23 ?_
    refine zs_callV hE (As := []) (encA := encI) (ci := 35) rfl (fun y0 => met_X3_digit K y0) q3219 q105 q3216 q3218 (zq qs88) hd_X3_digit (by decide) (by decide) rfl (by simp [zcat_rf, zcat_i, zcat_j, zcat_f, zcat_d]) (fun z hz => by cases hz) dX3_figures_24 (fun r4 => ?_)
    show zS _ 27 _ [.int r4, .int ((10 : Int32) * r1)] _
    refine zs_iadd hE dX3_figures_27 ?_
    refine zs_goto hE 32 (by decide) dX3_figures_28 ?_
    exact zs_iret hE dX3_figures_32
theorem hd_X3_figures : (yX3_figures).cls ≠ "java/lang/invoke/MethodHandle" ∧ (yX3_figures).cls ≠ "java/lang/invoke/VarHandle" ∧ (parseMethodDescriptor (yX3_figures).desc).map (fun d => d.parameters.length) = some 0 := by decide +kernel
theorem met_X3_figures (K : ZK) (this : Nat) : zMeth K yX3_figures (zws yX3_figures cX3_figures 2 (Option.some Jvm.ClassFile.FieldType.int)) 3 143 [.ref this] encI (s_X3_figures K this) :=
  fun l G hl hK => zmet_of hl hK (by decide +kernel) rfl rfl (by simp [zsl_nil, zsl_rf, zsl_r, zsl_i, zsl_j, zsl_f, zsl_d]) (fun x hE => by simp only [zla_nil, zla_rf, zla_r, zla_i, zla_j, zla_f, zla_d, Nat.reduceAdd]; exact sm_X3_figures hE this)
theorem sm_X3_order_J150 {x : ZX Unit} {K : ZK} (hE : zE x K cX3_order RX3 "order" 4 4 164 encV none []) (x0 : Nat) (x1 : Int32) (x2 : Int32) : zS x 150 [(0, va_rf (some x0)), (1, .int x1), (2, .int x2)] [] (s_X3_order_J150 K x0 x1 x2) := by
  unfold s_X3_order_J150
  refine zs_aload_n hE 0 rfl rfl dX3_order_150 ?_
  refine zs_getI hE (ci := 35) (k := 23) rfl (by decide) in_X3 (Or.inl q2852) (Or.inl rfl) dX3_order_151 (fun v9 => ?_)
  refine zs_if_eq hE 158 (by decide) dX3_order_154 ?_ ?_
  · refine zs_aload_n hE 0 rfl rfl dX3_order_158 ?_
    refine zs_getR hE (ci := 35) (k := 16) rfl (by decide) in_X3 (Or.inl q2845) (Or.inl rfl) dX3_order_159 (fun v10 => ?_)
    refine zs_iload_n hE 1 rfl rfl dX3_order_162 ?_
    refine zs_iload_n hE 2 rfl rfl dX3_order_163 ?_
    refine zs_ast hE dX3_order_164 ?_
    refine zs_aload_n hE 0 rfl rfl dX3_order_165 ?_
    refine zs_dup hE (zcat_rf _) dX3_order_166 ?_
    refine zs_getI hE (ci := 35) (k := 22) rfl (by decide) in_X3 (Or.inl q2851) (Or.inl rfl) dX3_order_167 (fun v11 => ?_)
    refine zs_iconst hE (v := (1 : Int32)) (by decide) dX3_order_170 ?_
    refine zs_iadd hE dX3_order_171 ?_
    refine zs_putI hE (ci := 35) (k := 22) rfl (by decide) in_X3 (Or.inl q2851) (Or.inl rfl) (Or.inl rfl) (fun h => nomatch h) rfl dX3_order_172 ?_
    exact zs_vret hE dX3_order_175
  · exact zs_vret hE dX3_order_157
theorem sm_X3_order_J111 {x : ZX Unit} {K : ZK} (hE : zE x K cX3_order RX3 "order" 4 4 164 encV none []) (x0 : Nat) (x1 : Int32) (x2 : Int32) (t0 : Int32) (t1 : Int32) (t2 : Option Nat) : zS x 111 [(0, va_rf (some x0)), (1, .int x1), (2, .int x2)] [.int t0, .int t1, va_rf t2] (s_X3_order_J111 K x0 x1 x2 t0 t1 t2) := by
  unfold s_X3_order_J111
  refine zs_ast hE dX3_order_111 ?_
  refine zs_iload_n hE 2 rfl rfl dX3_order_112 ?_
  refine zs_bipush hE (v := (113 : Int32)) (by decide) dX3_order_113 ?_
  refine zs_icmp_ne hE 150 (by decide) dX3_order_115 ?_ ?_
  · refine zs_aload_n hE 0 rfl rfl dX3_order_118 ?_
    refine zs_bipush hE (v := (62 : Int32)) (by decide) dX3_order_119 ?_
    refine zs_callV hE (As := [.int (62 : Int32)]) (encA := encV) (ci := 35) rfl (fun y0 => met_X3_takesSign K y0 (62 : Int32)) q3223 q105 q3220 q3222 (zq qs89) hd_X3_takesSign (by decide) (by decide) rfl (by simp [zcat_rf, zcat_i, zcat_j, zcat_f, zcat_d]) (fun z hz => by cases hz) dX3_order_121 (fun _ => ?_)
    show zS _ 124 _ [] _
    refine zs_aload_n hE 0 rfl rfl dX3_order_124 ?_
    refine zs_getR hE (ci := 35) (k := 18) rfl (by decide) in_X3 (Or.inl q2847) (Or.inl rfl) dX3_order_125 (fun v5 => ?_)
    refine zs_iload_n hE 1 rfl rfl dX3_order_128 ?_
    refine zs_aload_n hE 0 rfl rfl dX3_order_129 ?_
    refine zs_callV hE (As := []) (encA := encI) (ci := 35) rfl (fun y0 => met_X3_figures K y0) q3215 q105 q3212 q3214 (zq qs87) hd_X3_figures (by decide) (by decide) rfl (by simp [zcat_rf, zcat_i, zcat_j, zcat_f, zcat_d]) (fun z hz => by cases hz) dX3_order_130 (fun r6 => ?_)
    show zS _ 133 _ [.int r6, .int x1, va_rf v5] _
    refine zs_ast hE dX3_order_133 ?_
    refine zs_aload_n hE 0 rfl rfl dX3_order_134 ?_
    refine zs_bipush hE (v := (42 : Int32)) (by decide) dX3_order_135 ?_
    refine zs_callV hE (As := [.int (42 : Int32)]) (encA := encV) (ci := 35) rfl (fun y0 => met_X3_takesSign K y0 (42 : Int32)) q3223 q105 q3220 q3222 (zq qs89) hd_X3_takesSign (by decide) (by decide) rfl (by simp [zcat_rf, zcat_i, zcat_j, zcat_f, zcat_d]) (fun z hz => by cases hz) dX3_order_137 (fun _ => ?_)
    show zS _ 140 _ [] _
    refine zs_aload_n hE 0 rfl rfl dX3_order_140 ?_
    refine zs_getR hE (ci := 35) (k := 19) rfl (by decide) in_X3 (Or.inl q2848) (Or.inl rfl) dX3_order_141 (fun v7 => ?_)
    refine zs_iload_n hE 1 rfl rfl dX3_order_144 ?_
    refine zs_aload_n hE 0 rfl rfl dX3_order_145 ?_
    refine zs_callV hE (As := []) (encA := encI) (ci := 35) rfl (fun y0 => met_X3_digit K y0) q3219 q105 q3216 q3218 (zq qs88) hd_X3_digit (by decide) (by decide) rfl (by simp [zcat_rf, zcat_i, zcat_j, zcat_f, zcat_d]) (fun z hz => by cases hz) dX3_order_146 (fun r8 => ?_)
    show zS _ 149 _ [.int r8, .int x1, va_rf v7] _
    refine zs_ast hE dX3_order_149 ?_
    exact sm_X3_order_J150 hE x0 x1 x2
  · exact sm_X3_order_J150 hE x0 x1 x2
theorem sm_X3_order_J107 {x : ZX Unit} {K : ZK} (hE : zE x K cX3_order RX3 "order" 4 4 164 encV none []) (x0 : Nat) (x1 : Int32) (x2 : Int32) (t0 : Int32) (t1 : Option Nat) : zS x 107 [(0, va_rf (some x0)), (1, .int x1), (2, .int x2)] [.int t0, va_rf t1] (s_X3_order_J107 K x0 x1 x2 t0 t1) := by
  unfold s_X3_order_J107
  refine zs_aload_n hE 0 rfl rfl dX3_order_107 ?_
  refine zs_callV hE (As := []) (encA := encI) (ci := 35) rfl (fun y0 => met_X3_figures K y0) q3215 q105 q3212 q3214 (zq qs87) hd_X3_figures (by decide) (by decide) rfl (by simp [zcat_rf, zcat_i, zcat_j, zcat_f, zcat_d]) (fun z hz => by cases hz) dX3_order_108 (fun r14 => ?_)
  show zS _ 111 _ [.int r14, .int t0, va_rf t1] _
  exact sm_X3_order_J111 hE x0 x1 x2 r14 t0 t1
theorem sm_X3_order_J51 {x : ZX Unit} {K : ZK} (hE : zE x K cX3_order RX3 "order" 4 4 164 encV none []) (x0 : Nat) (x1 : Int32) (x2 : Int32) (t0 : Int32) : zS x 51 [(0, va_rf (some x0)), (1, .int x1), (2, .int x2)] [.int t0] (s_X3_order_J51 K x0 x1 x2 t0) := by
  unfold s_X3_order_J51
  refine zs_istore_n hE (i := 3) (q := 3) rfl (by decide) (rfl) (lv' := [(0, va_rf (some x0)), (1, .int x1), (2, .int x2)]) rfl dX3_order_51 ?_
  refine zs_iload_n hE 0 rfl rfl dX3_order_52 ?_
  refine zs_if_ne hE 62 (by decide) dX3_order_53 ?_ ?_
  · refine zs_aload_n hE 1 rfl rfl dX3_order_56 ?_
    refine zs_iconst hE (v := (1 : Int32)) (by decide) dX3_order_57 ?_
    refine zs_putT hE (ci := 35) (k := 23) rfl (by decide) in_X3 (Or.inl q2852) (Or.inl rfl) (Or.inl rfl) (fun h => nomatch h) rfl dX3_order_58 ?_
    exact zs_vret hE dX3_order_61
  · refine zs_aload_n hE 1 rfl rfl dX3_order_62 ?_
    refine zs_dup hE (zcat_rf _) dX3_order_63 ?_
    refine zs_getI hE (ci := 35) (k := 21) rfl (by decide) in_X3 (Or.inl q2850) (Or.inl rfl) dX3_order_64 (fun v3 => ?_)
    refine zs_iconst hE (v := (1 : Int32)) (by decide) dX3_order_67 ?_
    refine zs_iadd hE dX3_order_68 ?_
    refine zs_putI hE (ci := 35) (k := 21) rfl (by decide) in_X3 (Or.inl q2850) (Or.inl rfl) (Or.inl rfl) (fun h => nomatch h) rfl dX3_order_69 ?_
    refine zs_aload_n hE 1 rfl rfl dX3_order_72 ?_
    refine zs_getR hE (ci := 35) (k := 17) rfl (by decide) in_X3 (Or.inl q2846) (Or.inl rfl) dX3_order_73 (fun v4 => ?_)
    refine zs_iload_n hE 2 rfl rfl dX3_order_76 ?_
    refine zs_iload_n hE 3 rfl rfl dX3_order_77 ?_
    refine zs_bipush hE (v := (120 : Int32)) (by decide) dX3_order_78 ?_
    refine zs_icmp_eq hE 103 (by decide) dX3_order_80 ?_ ?_
    · refine zs_iconst hE (v := (1 : Int32)) (by decide) dX3_order_103 ?_
      refine zs_goto hE 111 (by decide) dX3_order_104 ?_
      refine zs_sub [1, 2, 3] rfl ?_
      exact sm_X3_order_J111 hE x0 x1 x2 (1 : Int32) x1 v4
    · refine zs_iload_n hE 3 rfl rfl dX3_order_83 ?_
      refine zs_bipush hE (v := (116 : Int32)) (by decide) dX3_order_84 ?_
      refine zs_icmp_ne hE 107 (by decide) dX3_order_86 ?_ ?_
      · refine zs_aload_n hE 1 rfl rfl dX3_order_89 ?_
        refine zs_callV hE (As := []) (encA := encI) (ci := 35) rfl (fun y0 => met_X3_sign K y0) q3211 q105 q3208 q3210 (zq qs86) hd_X3_sign (by decide) (by decide) rfl (by simp [zcat_rf, zcat_i, zcat_j, zcat_f, zcat_d]) (fun z hz => by cases hz) dX3_order_90 (fun r12 => ?_)
        show zS _ 93 _ [.int r12, .int x1, va_rf v4] _
        refine zs_bipush hE (v := (48 : Int32)) (by decide) dX3_order_93 ?_
        refine zs_bipush hE (v := (57 : Int32)) (by decide) dX3_order_95 ?_
        refine zs_callS hE (As := [.int r12, .int (48 : Int32), .int (57 : Int32)]) (encA := encI) (met_X3_in K r12 (48 : Int32) (57 : Int32)) q2933 q105 q2931 q2932 hd_X3_in (by decide) (by decide) rfl (by simp [zcat_rf, zcat_i, zcat_j, zcat_f, zcat_d]) (fun z hz => by cases hz) dX3_order_97 (fun r13 => ?_)
        show zS _ 100 _ [.int r13, .int x1, va_rf v4] _
        refine zs_if_ne hE 107 (by decide) dX3_order_100 ?_ ?_
        · refine zs_iconst hE (v := (1 : Int32)) (by decide) dX3_order_103 ?_
          refine zs_goto hE 111 (by decide) dX3_order_104 ?_
          refine zs_sub [1, 2, 3] rfl ?_
          exact sm_X3_order_J111 hE x0 x1 x2 (1 : Int32) x1 v4
        · refine zs_sub [1, 2, 3] rfl ?_
          exact sm_X3_order_J107 hE x0 x1 x2 x1 v4
      · refine zs_sub [1, 2, 3] rfl ?_
        exact sm_X3_order_J107 hE x0 x1 x2 x1 v4
theorem sm_X3_order {x : ZX Unit} {K : ZK} (hE : zE x K cX3_order RX3 "order" 4 4 164 encV none []) (this : Nat) : zS x 0 [(0, va_rf (some this))] [] (s_X3_order K this) := by
  unfold s_X3_order
  refine zs_aload_n hE 0 rfl rfl dX3_order_0 ?_
  refine zs_getI hE (ci := 35) (k := 22) rfl (by decide) in_X3 (Or.inl q2851) (Or.inl rfl) dX3_order_1 (fun v1 => ?_)
  refine zs_istore_n hE (i := 1) (q := 1) rfl (by decide) (zcat_rf (some this)) (lv' := [(0, va_rf (some this))]) rfl dX3_order_4 ?_
  refine zs_aload_n hE 1 rfl rfl dX3_order_5 ?_
  refine zs_callV hE (As := []) (encA := encI) (ci := 35) rfl (fun y0 => met_X3_sign K y0) q3211 q105 q3208 q3210 (zq qs86) hd_X3_sign (by decide) (by decide) rfl (by simp [zcat_rf, zcat_i, zcat_j, zcat_f, zcat_d]) (fun z hz => by cases hz) dX3_order_6 (fun r2 => ?_)
  show zS _ 9 _ [.int r2] _
  refine zs_istore_n hE (i := 2) (q := 2) rfl (by decide) (rfl) (lv' := [(1, .int v1), (0, va_rf (some this))]) rfl dX3_order_9 ?_
  refine zs_iload_n hE 0 rfl rfl dX3_order_10 ?_
  refine zs_bipush hE (v := (43 : Int32)) (by decide) dX3_order_11 ?_
  refine zs_icmp_eq hE 46 (by decide) dX3_order_13 ?_ ?_
  · refine zs_iconst hE (v := (1 : Int32)) (by decide) dX3_order_46 ?_
    refine zs_goto hE 51 (by decide) dX3_order_47 ?_
    refine zs_sub [2, 1, 0] rfl ?_
    exact sm_X3_order_J51 hE this v1 r2 (1 : Int32)
  · refine zs_iload_n hE 0 rfl rfl dX3_order_16 ?_
    refine zs_bipush hE (v := (45 : Int32)) (by decide) dX3_order_17 ?_
    refine zs_icmp_eq hE 46 (by decide) dX3_order_19 ?_ ?_
    · refine zs_iconst hE (v := (1 : Int32)) (by decide) dX3_order_46 ?_
      refine zs_goto hE 51 (by decide) dX3_order_47 ?_
      refine zs_sub [2, 1, 0] rfl ?_
      exact sm_X3_order_J51 hE this v1 r2 (1 : Int32)
    · refine zs_iload_n hE 0 rfl rfl dX3_order_22 ?_
      refine zs_bipush hE (v := (113 : Int32)) (by decide) dX3_order_23 ?_
      refine zs_icmp_eq hE 46 (by decide) dX3_order_25 ?_ ?_
      · refine zs_iconst hE (v := (1 : Int32)) (by decide) dX3_order_46 ?_
        refine zs_goto hE 51 (by decide) dX3_order_47 ?_
        refine zs_sub [2, 1, 0] rfl ?_
        exact sm_X3_order_J51 hE this v1 r2 (1 : Int32)
      · refine zs_iload_n hE 0 rfl rfl dX3_order_28 ?_
        refine zs_bipush hE (v := (109 : Int32)) (by decide) dX3_order_29 ?_
        refine zs_icmp_eq hE 46 (by decide) dX3_order_31 ?_ ?_
        · refine zs_iconst hE (v := (1 : Int32)) (by decide) dX3_order_46 ?_
          refine zs_goto hE 51 (by decide) dX3_order_47 ?_
          refine zs_sub [2, 1, 0] rfl ?_
          exact sm_X3_order_J51 hE this v1 r2 (1 : Int32)
        · refine zs_iload_n hE 0 rfl rfl dX3_order_34 ?_
          refine zs_bipush hE (v := (116 : Int32)) (by decide) dX3_order_35 ?_
          refine zs_icmp_eq hE 46 (by decide) dX3_order_37 ?_ ?_
          · refine zs_iconst hE (v := (1 : Int32)) (by decide) dX3_order_46 ?_
            refine zs_goto hE 51 (by decide) dX3_order_47 ?_
            refine zs_sub [2, 1, 0] rfl ?_
            exact sm_X3_order_J51 hE this v1 r2 (1 : Int32)
          · refine zs_iload_n hE 0 rfl rfl dX3_order_40 ?_
            refine zs_bipush hE (v := (120 : Int32)) (by decide) dX3_order_41 ?_
            refine zs_icmp_ne hE 50 (by decide) dX3_order_43 ?_ ?_
            · refine zs_iconst hE (v := (1 : Int32)) (by decide) dX3_order_46 ?_
              refine zs_goto hE 51 (by decide) dX3_order_47 ?_
              refine zs_sub [2, 1, 0] rfl ?_
              exact sm_X3_order_J51 hE this v1 r2 (1 : Int32)
            · refine zs_iconst hE (v := (0 : Int32)) (by decide) dX3_order_50 ?_
              refine zs_sub [2, 1, 0] rfl ?_
              exact sm_X3_order_J51 hE this v1 r2 (0 : Int32)
theorem hd_X3_order : (yX3_order).cls ≠ "java/lang/invoke/MethodHandle" ∧ (yX3_order).cls ≠ "java/lang/invoke/VarHandle" ∧ (parseMethodDescriptor (yX3_order).desc).map (fun d => d.parameters.length) = some 0 := by decide +kernel
theorem met_X3_order (K : ZK) (this : Nat) : zMeth K yX3_order (zws yX3_order cX3_order 4 none) 4 164 [.ref this] encV (s_X3_order K this) :=
  fun l G hl hK => zmet_of hl hK (by decide +kernel) rfl rfl (by simp [zsl_nil, zsl_rf, zsl_r, zsl_i, zsl_j, zsl_f, zsl_d]) (fun x hE => by simp only [zla_nil, zla_rf, zla_r, zla_i, zla_j, zla_f, zla_d, Nat.reduceAdd]; exact sm_X3_order hE this)
theorem sm_X3_reads_J66 {x : ZX Unit} {K : ZK} (hE : zE x K cX3_reads RX3 "reads" 1 5 187 encV none []) (x0 : Nat) (t0 : Int32) (t1 : Int32) (t2 : Nat) : zS x 66 [(0, va_rf (some x0))] [.int t0, .int t1, va_rf (some t2)] (s_X3_reads_J66 K x0 t0 t1 t2) := by
  unfold s_X3_reads_J66
  refine zs_ior hE dX3_reads_66 ?_
  refine zs_putT hE (ci := 35) (k := 23) rfl (by decide) in_X3 (Or.inl q2852) (Or.inl rfl) (Or.inl rfl) (fun h => nomatch h) rfl dX3_reads_67 ?_
  refine zs_aload_n hE 0 rfl rfl dX3_reads_70 ?_
  refine zs_iconst hE (v := (0 : Int32)) (by decide) dX3_reads_71 ?_
  refine zs_putI hE (ci := 35) (k := 20) rfl (by decide) in_X3 (Or.inl q2849) (Or.inl rfl) (Or.inl rfl) (fun h => nomatch h) rfl dX3_reads_72 ?_
  exact zs_vret hE dX3_reads_75
theorem sm_X3_reads_B19 {x : ZX Unit} {K : ZK} (hE : zE x K cX3_reads RX3 "reads" 1 5 187 encV none []) (x0 : Nat) (self19 : Unit → ZP Unit) (hs19 : ∀ v : Unit, zS x 19 [(0, va_rf (some x0))] [] (self19 v)) : zS x 19 [(0, va_rf (some x0))] [] (s_X3_reads_B19 K x0 self19) := by
  unfold s_X3_reads_B19
  refine zs_aload_n hE 0 rfl rfl dX3_reads_19 ?_
  refine zs_callV hE (As := []) (encA := encI) (ci := 35) rfl (fun y0 => met_X3_sign K y0) q3211 q105 q3208 q3210 (zq qs86) hd_X3_sign (by decide) (by decide) rfl (by simp [zcat_rf, zcat_i, zcat_j, zcat_f, zcat_d]) (fun z hz => by cases hz) dX3_reads_20 (fun r1 => ?_)
  show zS _ 23 _ [.int r1] _
  refine zs_bipush hE (v := (59 : Int32)) (by decide) dX3_reads_23 ?_
  refine zs_icmp_ne hE 45 (by decide) dX3_reads_25 ?_ ?_
  · refine zs_aload_n hE 0 rfl rfl dX3_reads_28 ?_
    refine zs_dup hE (zcat_rf _) dX3_reads_29 ?_
    refine zs_getI hE (ci := 35) (k := 21) rfl (by decide) in_X3 (Or.inl q2850) (Or.inl rfl) dX3_reads_30 (fun v2 => ?_)
    refine zs_iconst hE (v := (1 : Int32)) (by decide) dX3_reads_33 ?_
    refine zs_iadd hE dX3_reads_34 ?_
    refine zs_putI hE (ci := 35) (k := 21) rfl (by decide) in_X3 (Or.inl q2850) (Or.inl rfl) (Or.inl rfl) (fun h => nomatch h) rfl dX3_reads_35 ?_
    refine zs_aload_n hE 0 rfl rfl dX3_reads_38 ?_
    refine zs_callV hE (As := []) (encA := encV) (ci := 35) rfl (fun y0 => met_X3_order K y0) q3207 q105 q3204 q3206 (zq qs85) hd_X3_order (by decide) (by decide) rfl (by simp [zcat_rf, zcat_i, zcat_j, zcat_f, zcat_d]) (fun z hz => by cases hz) dX3_reads_39 (fun _ => ?_)
    show zS _ 42 _ [] _
    refine zs_goto hE 19 (by decide) dX3_reads_42 ?_
    exact hs19 ()
  · refine zs_aload_n hE 0 rfl rfl dX3_reads_45 ?_
    refine zs_dup hE (zcat_rf _) dX3_reads_46 ?_
    refine zs_getI hE (ci := 35) (k := 23) rfl (by decide) in_X3 (Or.inl q2852) (Or.inl rfl) dX3_reads_47 (fun v3 => ?_)
    refine zs_aload_n hE 0 rfl rfl dX3_reads_50 ?_
    refine zs_getI hE (ci := 35) (k := 21) rfl (by decide) in_X3 (Or.inl q2850) (Or.inl rfl) dX3_reads_51 (fun v4 => ?_)
    refine zs_aload_n hE 0 rfl rfl dX3_reads_54 ?_
    refine zs_getI hE (ci := 35) (k := 20) rfl (by decide) in_X3 (Or.inl q2849) (Or.inl rfl) dX3_reads_55 (fun v5 => ?_)
    refine zs_icmp_ge hE 65 (by decide) dX3_reads_58 ?_ ?_
    · refine zs_iconst hE (v := (0 : Int32)) (by decide) dX3_reads_65 ?_
      exact sm_X3_reads_J66 hE x0 (0 : Int32) v3 x0
    · refine zs_iconst hE (v := (1 : Int32)) (by decide) dX3_reads_61 ?_
      refine zs_goto hE 66 (by decide) dX3_reads_62 ?_
      exact sm_X3_reads_J66 hE x0 (1 : Int32) v3 x0
theorem sm_X3_reads_L19 {x : ZX Unit} {K : ZK} (hE : zE x K cX3_reads RX3 "reads" 1 5 187 encV none []) (x0 : Nat) (v : Unit) : zS x 19 [(0, va_rf (some x0))] [] (s_X3_reads_L19 K x0 v) := by
  unfold s_X3_reads_L19
  exact zs_loop (lvf := fun v => [(0, va_rf (some x0))]) (fun self19 hs19 v => sm_X3_reads_B19 hE x0 self19 hs19) v
theorem sm_X3_reads {x : ZX Unit} {K : ZK} (hE : zE x K cX3_reads RX3 "reads" 1 5 187 encV none []) (this : Nat) : zS x 0 [(0, va_rf (some this))] [] (s_X3_reads K this) := by
  unfold s_X3_reads
  refine zs_aload_n hE 0 rfl rfl dX3_reads_0 ?_
  refine zs_iconst hE (v := (0 : Int32)) (by decide) dX3_reads_1 ?_
  refine zs_putI hE (ci := 35) (k := 21) rfl (by decide) in_X3 (Or.inl q2850) (Or.inl rfl) (Or.inl rfl) (fun h => nomatch h) rfl dX3_reads_2 ?_
  refine zs_aload_n hE 0 rfl rfl dX3_reads_5 ?_
  refine zs_iconst hE (v := (0 : Int32)) (by decide) dX3_reads_6 ?_
  refine zs_putI hE (ci := 35) (k := 22) rfl (by decide) in_X3 (Or.inl q2851) (Or.inl rfl) (Or.inl rfl) (fun h => nomatch h) rfl dX3_reads_7 ?_
  refine zs_aload_n hE 0 rfl rfl dX3_reads_10 ?_
  refine zs_iconst hE (v := (0 : Int32)) (by decide) dX3_reads_11 ?_
  refine zs_putT hE (ci := 35) (k := 23) rfl (by decide) in_X3 (Or.inl q2852) (Or.inl rfl) (Or.inl rfl) (fun h => nomatch h) rfl dX3_reads_12 ?_
  refine zs_aload_n hE 0 rfl rfl dX3_reads_15 ?_
  refine zs_callV hE (As := []) (encA := encV) (ci := 35) rfl (fun y0 => met_X3_order K y0) q3207 q105 q3204 q3206 (zq qs85) hd_X3_order (by decide) (by decide) rfl (by simp [zcat_rf, zcat_i, zcat_j, zcat_f, zcat_d]) (fun z hz => by cases hz) dX3_reads_16 (fun _ => ?_)
  show zS _ 19 _ [] _
  exact sm_X3_reads_L19 hE this ()
theorem hd_X3_reads : (yX3_reads).cls ≠ "java/lang/invoke/MethodHandle" ∧ (yX3_reads).cls ≠ "java/lang/invoke/VarHandle" ∧ (parseMethodDescriptor (yX3_reads).desc).map (fun d => d.parameters.length) = some 0 := by decide +kernel
theorem met_X3_reads (K : ZK) (this : Nat) : zMeth K yX3_reads (zws yX3_reads cX3_reads 1 none) 5 187 [.ref this] encV (s_X3_reads K this) :=
  fun l G hl hK => zmet_of hl hK (by decide +kernel) rfl rfl (by simp [zsl_nil, zsl_rf, zsl_r, zsl_i, zsl_j, zsl_f, zsl_d]) (fun x hE => by simp only [zla_nil, zla_rf, zla_r, zla_i, zla_j, zla_f, zla_d, Nat.reduceAdd]; exact sm_X3_reads hE this)
theorem sm_X3_cannot {x : ZX Int32} {K : ZK} (hE : zE x K cX3_cannot RX3 "cannot" 3 7 235 encI (Option.some Jvm.ClassFile.FieldType.boolean) []) (this : Nat) (a1 : Int32) : zS x 0 [(0, va_rf (some this)), (1, .int a1)] [] (s_X3_cannot K this a1) := by
  unfold s_X3_cannot
  refine zs_iconst hE (v := (0 : Int32)) (by decide) dX3_cannot_0 ?_
  refine zs_istore_n hE (i := 2) (q := 2) rfl (by decide) (rfl) (lv' := [(0, va_rf (some this)), (1, .int a1)]) rfl dX3_cannot_1 ?_
  refine zs_aload_n hE 1 rfl rfl dX3_cannot_2 ?_
  refine zs_getR hE (ci := 35) (k := 16) rfl (by decide) in_X3 (Or.inl q2845) (Or.inl rfl) dX3_cannot_3 (fun v1 => ?_)
  refine zs_iload_n hE 2 rfl rfl dX3_cannot_6 ?_
  refine zs_ald hE dX3_cannot_7 (fun v2 => ?_)
  refine zs_lsw hE (psl := [(43, 52), (45, 80), (109, 162), (113, 108), (116, 190)]) rfl (by decide) dX3_cannot_8 (tgt := 226) (by decide) ⟨⟨by decide, 60, by decide, ?_⟩, ⟨by decide, 88, by decide, ?_⟩, ⟨by decide, 170, by decide, ?_⟩, ⟨by decide, 116, by decide, ?_⟩, ⟨by decide, 198, by decide, ?_⟩, trivial⟩ ?_
  · refine zs_aload_n hE 1 rfl rfl dX3_cannot_60 ?_
    refine zs_aload_n hE 1 rfl rfl dX3_cannot_61 ?_
    refine zs_getR hE (ci := 35) (k := 17) rfl (by decide) in_X3 (Or.inl q2846) (Or.inl rfl) dX3_cannot_62 (fun v3 => ?_)
    refine zs_iload_n hE 2 rfl rfl dX3_cannot_65 ?_
    refine zs_ald hE dX3_cannot_66 (fun v4 => ?_)
    refine zs_callV hE (As := [.int v4]) (encA := encI) (ci := 35) rfl (fun y0 => met_X3_isRefusedJoin K y0 v4) q2927 q105 q2924 q2926 (zq qs47) hd_X3_isRefusedJoin (by decide) (by decide) rfl (by simp [zcat_rf, zcat_i, zcat_j, zcat_f, zcat_d]) (fun z hz => by cases hz) dX3_cannot_67 (fun r5 => ?_)
    show zS _ 70 _ [.int r5] _
    refine zs_if_eq hE 75 (by decide) dX3_cannot_70 ?_ ?_
    · refine zs_aload_n hE 1 rfl rfl dX3_cannot_75 ?_
      refine zs_aload_n hE 1 rfl rfl dX3_cannot_76 ?_
      refine zs_getR hE (ci := 35) (k := 17) rfl (by decide) in_X3 (Or.inl q2846) (Or.inl rfl) dX3_cannot_77 (fun v6 => ?_)
      refine zs_iload_n hE 2 rfl rfl dX3_cannot_80 ?_
      refine zs_ald hE dX3_cannot_81 (fun v7 => ?_)
      refine zs_callV hE (As := [.int v7]) (encA := encI) (ci := 35) rfl (fun y0 => met_X3_joins K y0 v7) q2957 q105 q2954 q2956 (zq qs53) hd_X3_joins (by decide) (by decide) rfl (by simp [zcat_rf, zcat_i, zcat_j, zcat_f, zcat_d]) (fun z hz => by cases hz) dX3_cannot_82 (fun r8 => ?_)
      show zS _ 85 _ [.int r8] _
      refine zs_istore_n hE (i := 2) (q := 2) rfl (by decide) (rfl) (lv' := [(0, va_rf (some this)), (1, .int a1)]) rfl dX3_cannot_85 ?_
      refine zs_iconst hE (v := (0 : Int32)) (by decide) dX3_cannot_86 ?_
      exact zs_zret hE rfl dX3_cannot_87
    · refine zs_iconst hE (v := (1 : Int32)) (by decide) dX3_cannot_73 ?_
      exact zs_zret hE rfl dX3_cannot_74
  · refine zs_aload_n hE 1 rfl rfl dX3_cannot_88 ?_
    refine zs_aload_n hE 1 rfl rfl dX3_cannot_89 ?_
    refine zs_getR hE (ci := 35) (k := 17) rfl (by decide) in_X3 (Or.inl q2846) (Or.inl rfl) dX3_cannot_90 (fun v9 => ?_)
    refine zs_iload_n hE 2 rfl rfl dX3_cannot_93 ?_
    refine zs_ald hE dX3_cannot_94 (fun v10 => ?_)
    refine zs_callV hE (As := [.int v10]) (encA := encI) (ci := 35) rfl (fun y0 => met_X3_isOut K y0 v10) q2973 q105 q2970 q2972 (zq qs56) hd_X3_isOut (by decide) (by decide) rfl (by simp [zcat_rf, zcat_i, zcat_j, zcat_f, zcat_d]) (fun z hz => by cases hz) dX3_cannot_95 (fun r11 => ?_)
    show zS _ 98 _ [.int r11] _
    refine zs_if_eq hE 103 (by decide) dX3_cannot_98 ?_ ?_
    · refine zs_aload_n hE 1 rfl rfl dX3_cannot_103 ?_
      refine zs_aload_n hE 1 rfl rfl dX3_cannot_104 ?_
      refine zs_getR hE (ci := 35) (k := 17) rfl (by decide) in_X3 (Or.inl q2846) (Or.inl rfl) dX3_cannot_105 (fun v12 => ?_)
      refine zs_iload_n hE 2 rfl rfl dX3_cannot_108 ?_
      refine zs_ald hE dX3_cannot_109 (fun v13 => ?_)
      refine zs_callV hE (As := [.int v13]) (encA := encI) (ci := 35) rfl (fun y0 => met_X3_leaves K y0 v13) q2977 q105 q2974 q2976 (zq qs57) hd_X3_leaves (by decide) (by decide) rfl (by simp [zcat_rf, zcat_i, zcat_j, zcat_f, zcat_d]) (fun z hz => by cases hz) dX3_cannot_110 (fun r14 => ?_)
      show zS _ 113 _ [.int r14] _
      refine zs_istore_n hE (i := 2) (q := 2) rfl (by decide) (rfl) (lv' := [(0, va_rf (some this)), (1, .int a1)]) rfl dX3_cannot_113 ?_
      refine zs_iconst hE (v := (0 : Int32)) (by decide) dX3_cannot_114 ?_
      exact zs_zret hE rfl dX3_cannot_115
    · refine zs_iconst hE (v := (1 : Int32)) (by decide) dX3_cannot_101 ?_
      exact zs_zret hE rfl dX3_cannot_102
  · refine zs_aload_n hE 1 rfl rfl dX3_cannot_170 ?_
    refine zs_aload_n hE 1 rfl rfl dX3_cannot_171 ?_
    refine zs_getR hE (ci := 35) (k := 17) rfl (by decide) in_X3 (Or.inl q2846) (Or.inl rfl) dX3_cannot_172 (fun v15 => ?_)
    refine zs_iload_n hE 2 rfl rfl dX3_cannot_175 ?_
    refine zs_ald hE dX3_cannot_176 (fun v16 => ?_)
    refine zs_callV hE (As := [.int v16]) (encA := encI) (ci := 35) rfl (fun y0 => met_X3_isRefusedMonitor K y0 v16) q3013 q105 q3010 q3012 (zq qs63) hd_X3_isRefusedMonitor (by decide) (by decide) rfl (by simp [zcat_rf, zcat_i, zcat_j, zcat_f, zcat_d]) (fun z hz => by cases hz) dX3_cannot_177 (fun r17 => ?_)
    show zS _ 180 _ [.int r17] _
    refine zs_if_eq hE 185 (by decide) dX3_cannot_180 ?_ ?_
    · refine zs_aload_n hE 1 rfl rfl dX3_cannot_185 ?_
      refine zs_aload_n hE 1 rfl rfl dX3_cannot_186 ?_
      refine zs_getR hE (ci := 35) (k := 17) rfl (by decide) in_X3 (Or.inl q2846) (Or.inl rfl) dX3_cannot_187 (fun v18 => ?_)
      refine zs_iload_n hE 2 rfl rfl dX3_cannot_190 ?_
      refine zs_ald hE dX3_cannot_191 (fun v19 => ?_)
      refine zs_callV hE (As := [.int v19]) (encA := encI) (ci := 35) rfl (fun y0 => met_X3_monitors K y0 v19) q3017 q105 q3014 q3016 (zq qs64) hd_X3_monitors (by decide) (by decide) rfl (by simp [zcat_rf, zcat_i, zcat_j, zcat_f, zcat_d]) (fun z hz => by cases hz) dX3_cannot_192 (fun r20 => ?_)
      show zS _ 195 _ [.int r20] _
      refine zs_istore_n hE (i := 2) (q := 2) rfl (by decide) (rfl) (lv' := [(0, va_rf (some this)), (1, .int a1)]) rfl dX3_cannot_195 ?_
      refine zs_iconst hE (v := (0 : Int32)) (by decide) dX3_cannot_196 ?_
      exact zs_zret hE rfl dX3_cannot_197
    · refine zs_iconst hE (v := (1 : Int32)) (by decide) dX3_cannot_183 ?_
      exact zs_zret hE rfl dX3_cannot_184
  · refine zs_aload_n hE 1 rfl rfl dX3_cannot_116 ?_
    refine zs_aload_n hE 1 rfl rfl dX3_cannot_117 ?_
    refine zs_getR hE (ci := 35) (k := 17) rfl (by decide) in_X3 (Or.inl q2846) (Or.inl rfl) dX3_cannot_118 (fun v21 => ?_)
    refine zs_iload_n hE 2 rfl rfl dX3_cannot_121 ?_
    refine zs_ald hE dX3_cannot_122 (fun v22 => ?_)
    refine zs_aload_n hE 1 rfl rfl dX3_cannot_123 ?_
    refine zs_getR hE (ci := 35) (k := 18) rfl (by decide) in_X3 (Or.inl q2847) (Or.inl rfl) dX3_cannot_124 (fun v23 => ?_)
    refine zs_iload_n hE 2 rfl rfl dX3_cannot_127 ?_
    refine zs_ald hE dX3_cannot_128 (fun v24 => ?_)
    refine zs_aload_n hE 1 rfl rfl dX3_cannot_129 ?_
    refine zs_getR hE (ci := 35) (k := 19) rfl (by decide) in_X3 (Or.inl q2848) (Or.inl rfl) dX3_cannot_130 (fun v25 => ?_)
    refine zs_iload_n hE 2 rfl rfl dX3_cannot_133 ?_
    refine zs_ald hE dX3_cannot_134 (fun v26 => ?_)
    refine zs_iconst hE (v := (1 : Int32)) (by decide) dX3_cannot_135 ?_
    refine zs_callV hE (As := [.int v22, .int v24, .int v26, .int (1 : Int32)]) (encA := encI) (ci := 35) rfl (fun y0 => met_X3_isRefusedQueue K y0 v22 v24 v26 (1 : Int32)) q2993 q105 q2990 q2992 (zq qs60) hd_X3_isRefusedQueue (by decide) (by decide) rfl (by simp [zcat_rf, zcat_i, zcat_j, zcat_f, zcat_d]) (fun z hz => by cases hz) dX3_cannot_136 (fun r27 => ?_)
    show zS _ 139 _ [.int r27] _
    refine zs_if_eq hE 144 (by decide) dX3_cannot_139 ?_ ?_
    · refine zs_aload_n hE 1 rfl rfl dX3_cannot_144 ?_
      refine zs_aload_n hE 1 rfl rfl dX3_cannot_145 ?_
      refine zs_getR hE (ci := 35) (k := 17) rfl (by decide) in_X3 (Or.inl q2846) (Or.inl rfl) dX3_cannot_146 (fun v28 => ?_)
      refine zs_iload_n hE 2 rfl rfl dX3_cannot_149 ?_
      refine zs_ald hE dX3_cannot_150 (fun v29 => ?_)
      refine zs_aload_n hE 1 rfl rfl dX3_cannot_151 ?_
      refine zs_getR hE (ci := 35) (k := 18) rfl (by decide) in_X3 (Or.inl q2847) (Or.inl rfl) dX3_cannot_152 (fun v30 => ?_)
      refine zs_iload_n hE 2 rfl rfl dX3_cannot_155 ?_
      refine zs_ald hE dX3_cannot_156 (fun v31 => ?_)
      refine zs_aload_n hE 1 rfl rfl dX3_cannot_157 ?_
      refine zs_getR hE (ci := 35) (k := 19) rfl (by decide) in_X3 (Or.inl q2848) (Or.inl rfl) dX3_cannot_158 (fun v32 => ?_)
      refine zs_iload_n hE 2 rfl rfl dX3_cannot_161 ?_
      refine zs_ald hE dX3_cannot_162 (fun v33 => ?_)
      refine zs_iconst hE (v := (1 : Int32)) (by decide) dX3_cannot_163 ?_
      refine zs_callV hE (As := [.int v29, .int v31, .int v33, .int (1 : Int32)]) (encA := encI) (ci := 35) rfl (fun y0 => met_X3_queues K y0 v29 v31 v33 (1 : Int32)) q2997 q105 q2994 q2996 (zq qs61) hd_X3_queues (by decide) (by decide) rfl (by simp [zcat_rf, zcat_i, zcat_j, zcat_f, zcat_d]) (fun z hz => by cases hz) dX3_cannot_164 (fun r34 => ?_)
      show zS _ 167 _ [.int r34] _
      refine zs_istore_n hE (i := 2) (q := 2) rfl (by decide) (rfl) (lv' := [(0, va_rf (some this)), (1, .int a1)]) rfl dX3_cannot_167 ?_
      refine zs_iconst hE (v := (0 : Int32)) (by decide) dX3_cannot_168 ?_
      exact zs_zret hE rfl dX3_cannot_169
    · refine zs_iconst hE (v := (1 : Int32)) (by decide) dX3_cannot_142 ?_
      exact zs_zret hE rfl dX3_cannot_143
  · refine zs_aload_n hE 1 rfl rfl dX3_cannot_198 ?_
    refine zs_aload_n hE 1 rfl rfl dX3_cannot_199 ?_
    refine zs_getR hE (ci := 35) (k := 17) rfl (by decide) in_X3 (Or.inl q2846) (Or.inl rfl) dX3_cannot_200 (fun v35 => ?_)
    refine zs_iload_n hE 2 rfl rfl dX3_cannot_203 ?_
    refine zs_ald hE dX3_cannot_204 (fun v36 => ?_)
    refine zs_callV hE (As := [.int v36]) (encA := encI) (ci := 35) rfl (fun y0 => met_X3_isRefusedTicks K y0 v36) q3045 q105 q3042 q3044 (zq qs68) hd_X3_isRefusedTicks (by decide) (by decide) rfl (by simp [zcat_rf, zcat_i, zcat_j, zcat_f, zcat_d]) (fun z hz => by cases hz) dX3_cannot_205 (fun r37 => ?_)
    show zS _ 208 _ [.int r37] _
    refine zs_if_eq hE 213 (by decide) dX3_cannot_208 ?_ ?_
    · refine zs_aload_n hE 1 rfl rfl dX3_cannot_213 ?_
      refine zs_aload_n hE 1 rfl rfl dX3_cannot_214 ?_
      refine zs_getR hE (ci := 35) (k := 17) rfl (by decide) in_X3 (Or.inl q2846) (Or.inl rfl) dX3_cannot_215 (fun v38 => ?_)
      refine zs_iload_n hE 2 rfl rfl dX3_cannot_218 ?_
      refine zs_ald hE dX3_cannot_219 (fun v39 => ?_)
      refine zs_callV hE (As := [.int v39]) (encA := encI) (ci := 35) rfl (fun y0 => met_X3_goes K y0 v39) q3052 q105 q3049 q3051 (zq qs69) hd_X3_goes (by decide) (by decide) rfl (by simp [zcat_rf, zcat_i, zcat_j, zcat_f, zcat_d]) (fun z hz => by cases hz) dX3_cannot_220 (fun r40 => ?_)
      show zS _ 223 _ [.int r40] _
      refine zs_istore_n hE (i := 2) (q := 2) rfl (by decide) (rfl) (lv' := [(0, va_rf (some this)), (1, .int a1)]) rfl dX3_cannot_223 ?_
      refine zs_iconst hE (v := (0 : Int32)) (by decide) dX3_cannot_224 ?_
      exact zs_zret hE rfl dX3_cannot_225
    · refine zs_iconst hE (v := (1 : Int32)) (by decide) dX3_cannot_211 ?_
      exact zs_zret hE rfl dX3_cannot_212
  · refine zs_aload_n hE 1 rfl rfl dX3_cannot_226 ?_
    refine zs_callV hE (As := []) (encA := encI) (ci := 35) rfl (fun y0 => met_X3_isSilent K y0) q3037 q105 q3034 q3036 (zq qs67) hd_X3_isSilent (by decide) (by decide) rfl (by simp [zcat_rf, zcat_i, zcat_j, zcat_f, zcat_d]) (fun z hz => by cases hz) dX3_cannot_227 (fun r41 => ?_)
    show zS _ 230 _ [.int r41] _
    refine zs_if_eq hE 235 (by decide) dX3_cannot_230 ?_ ?_
    · refine zs_aload_n hE 1 rfl rfl dX3_cannot_235 ?_
      refine zs_callV hE (As := []) (encA := encI) (ci := 35) rfl (fun y0 => met_X3_losesIt K y0) q2981 q105 q2978 q2980 (zq qs58) hd_X3_losesIt (by decide) (by decide) rfl (by simp [zcat_rf, zcat_i, zcat_j, zcat_f, zcat_d]) (fun z hz => by cases hz) dX3_cannot_236 (fun r42 => ?_)
      show zS _ 239 _ [.int r42] _
      refine zs_istore_n hE (i := 2) (q := 2) rfl (by decide) (rfl) (lv' := [(0, va_rf (some this)), (1, .int a1)]) rfl dX3_cannot_239 ?_
      refine zs_iconst hE (v := (0 : Int32)) (by decide) dX3_cannot_240 ?_
      exact zs_zret hE rfl dX3_cannot_241
    · refine zs_iconst hE (v := (1 : Int32)) (by decide) dX3_cannot_233 ?_
      exact zs_zret hE rfl dX3_cannot_234
theorem hd_X3_cannot : (yX3_cannot).cls ≠ "java/lang/invoke/MethodHandle" ∧ (yX3_cannot).cls ≠ "java/lang/invoke/VarHandle" ∧ (parseMethodDescriptor (yX3_cannot).desc).map (fun d => d.parameters.length) = some 1 := by decide +kernel
theorem met_X3_cannot (K : ZK) (this : Nat) (a1 : Int32) : zMeth K yX3_cannot (zws yX3_cannot cX3_cannot 3 (Option.some Jvm.ClassFile.FieldType.boolean)) 7 235 [.ref this, .int a1] encI (s_X3_cannot K this a1) :=
  fun l G hl hK => zmet_of hl hK (by decide +kernel) rfl rfl (by simp [zsl_nil, zsl_rf, zsl_r, zsl_i, zsl_j, zsl_f, zsl_d]) (fun x hE => by simp only [zla_nil, zla_rf, zla_r, zla_i, zla_j, zla_f, zla_d, Nat.reduceAdd]; exact sm_X3_cannot hE this a1)
