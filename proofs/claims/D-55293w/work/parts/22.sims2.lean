/-! SIM-LAYER, written by gen/dec.py -/
theorem sm_X1_stationAt_B41 {x : ZX Int32} {K : ZK} (hE : zE x K cX1_stationAt RX1 "stationAt" 6 7 164 encI (Option.some Jvm.ClassFile.FieldType.int) []) (x1 : Int32) (x4 : Option Nat) (self41 : (Int32 × Int32) → ZP Int32) (hs41 : ∀ v : Int32 × Int32, zS x 41 [(1, .int x1), (2, .int v.1), (3, .int v.2), (4, va_rf x4)] [] (self41 v)) (x2 : Int32) (x3 : Int32) : zS x 41 [(1, .int x1), (2, .int x2), (3, .int x3), (4, va_rf x4)] [] (s_X1_stationAt_B41 K x1 x4 self41 x2 x3) := by
  unfold s_X1_stationAt_B41
  refine zs_aload hE 3 rfl dX1_stationAt_41 ?_
  refine zs_callF hE (xx := ⟨"java/util/Iterator", "hasNext", "()Z"⟩) (As := []) (encA := encI) (ci := 8) rfl (fun y0 => met_J26_hasNext__J28 K y0) q875 q127 q1389 (List.mem_of_getElem? (i := 1) rfl) q873 q883 hdx_h2 (by decide) (by decide) rfl (by simp [zcat_rf, zcat_i, zcat_j, zcat_f, zcat_d]) (fun z hz => by cases hz) dX1_stationAt_43 (fun r9 => ?_)
  show zS _ 48 _ [.int r9] _
  refine zs_if_eq hE 84 (by decide) dX1_stationAt_48 ?_ ?_
  · refine zs_iload_n hE 2 rfl rfl dX1_stationAt_84 ?_
    exact zs_iret hE dX1_stationAt_85
  · refine zs_aload hE 3 rfl dX1_stationAt_51 ?_
    refine zs_callF hE (xx := ⟨"java/util/Iterator", "next", "()Ljava/lang/Object;"⟩) (As := []) (encA := encR) (ci := 8) rfl (fun y0 => met_J28_next K y0) q1094 q129 q1391 (List.mem_of_getElem? (i := 2) rfl) q1092 q1090 hdx_h4 (by decide) (by decide) rfl (by simp [zcat_rf, zcat_i, zcat_j, zcat_f, zcat_d]) (fun z hz => by cases hz) dX1_stationAt_53 (fun r10 => ?_)
    show zS _ 58 _ [va_rf r10] _
    refine zs_cast hE q1392 (zc1 rfl (Or.inl rfl)) dX1_stationAt_58 ?_
    refine zs_astore hE (i := 5) (by decide) (zcat_rf x4) (lv' := [(1, .int x1), (2, .int x2), (3, .int x3), (4, va_rf x4)]) rfl dX1_stationAt_61 ?_
    refine zs_iload_n hE 2 rfl rfl dX1_stationAt_63 ?_
    refine zs_iload_n hE 1 rfl rfl dX1_stationAt_64 ?_
    refine zs_icmp_ne hE 76 (by decide) dX1_stationAt_65 ?_ ?_
    · refine zs_aload hE 0 rfl dX1_stationAt_68 ?_
      refine zs_getI hE (ci := 37) (k := 0) rfl (by decide) in_X5 (Or.inr ⟨_, zn q1550 rfl⟩) (Or.inl rfl) dX1_stationAt_70 (fun v11 => ?_)
      refine zs_goto hE 77 (by decide) dX1_stationAt_73 ?_
      refine zs_istore_n hE (i := 3) (q := 3) rfl (by decide) (rfl) (lv' := [(5, va_rf r10), (1, .int x1), (2, .int x2), (4, va_rf x4)]) rfl dX1_stationAt_77 ?_
      refine zs_iinc hE 3 (v := (1 : Int32)) rfl (by decide) (by decide) (rfl) (lv' := [(3, .int v11), (5, va_rf r10), (1, .int x1), (4, va_rf x4)]) rfl dX1_stationAt_78 ?_
      refine zs_goto hE 41 (by decide) dX1_stationAt_81 ?_
      refine zs_sub [3, 0, 1, 4] rfl ?_
      exact hs41 (x2 + (1 : Int32), v11)
    · refine zs_iload_n hE 3 rfl rfl dX1_stationAt_76 ?_
      refine zs_istore_n hE (i := 3) (q := 3) rfl (by decide) (rfl) (lv' := [(5, va_rf r10), (1, .int x1), (2, .int x2), (4, va_rf x4)]) rfl dX1_stationAt_77 ?_
      refine zs_iinc hE 3 (v := (1 : Int32)) rfl (by decide) (by decide) (rfl) (lv' := [(3, .int x3), (5, va_rf r10), (1, .int x1), (4, va_rf x4)]) rfl dX1_stationAt_78 ?_
      refine zs_goto hE 41 (by decide) dX1_stationAt_81 ?_
      refine zs_sub [3, 0, 1, 4] rfl ?_
      exact hs41 (x2 + (1 : Int32), x3)
theorem sm_X1_stationAt_L41 {x : ZX Int32} {K : ZK} (hE : zE x K cX1_stationAt RX1 "stationAt" 6 7 164 encI (Option.some Jvm.ClassFile.FieldType.int) []) (x1 : Int32) (x4 : Option Nat) (v : Int32 × Int32) : zS x 41 [(1, .int x1), (2, .int v.1), (3, .int v.2), (4, va_rf x4)] [] (s_X1_stationAt_L41 K x1 x4 v) := by
  unfold s_X1_stationAt_L41
  exact zs_loop (lvf := fun v => [(1, .int x1), (2, .int v.1), (3, .int v.2), (4, va_rf x4)]) (fun self41 hs41 v => sm_X1_stationAt_B41 hE x1 x4 self41 hs41 v.1 v.2) v
theorem sm_X1_stationAt {x : ZX Int32} {K : ZK} (hE : zE x K cX1_stationAt RX1 "stationAt" 6 7 164 encI (Option.some Jvm.ClassFile.FieldType.int) []) (this : Nat) (a1 : Int32) : zS x 0 [(0, va_rf (some this)), (1, .int a1)] [] (s_X1_stationAt K this a1) := by
  unfold s_X1_stationAt
  refine zs_iload_n hE 1 rfl rfl dX1_stationAt_0 ?_
  refine zs_iconst hE (v := (0 : Int32)) (by decide) dX1_stationAt_1 ?_
  refine zs_aload_n hE 0 rfl rfl dX1_stationAt_2 ?_
  refine zs_getR hE (ci := 24) (k := 0) rfl (by decide) in_X1 (Or.inl q391) (Or.inl rfl) dX1_stationAt_3 (fun v1 => ?_)
  refine zs_getR hE (ci := 34) (k := 0) rfl (by decide) in_X2 (Or.inr ⟨_, zn q218 rfl⟩) (Or.inl rfl) dX1_stationAt_6 (fun v2 => ?_)
  refine zs_callV hE (As := []) (encA := encI) (ci := 0) rfl (fun y0 => met_J1_size K y0) q857 q98 q1824 q855 (zq q856) hd_J1_size (by decide) (by decide) rfl (by simp [zcat_rf, zcat_i, zcat_j, zcat_f, zcat_d]) (fun z hz => by cases hz) dX1_stationAt_9 (fun r3 => ?_)
  show zS _ 12 _ [.int r3, .int (0 : Int32), .int a1] _
  refine zs_iconst hE (v := (1 : Int32)) (by decide) dX1_stationAt_12 ?_
  refine zs_isub hE dX1_stationAt_13 ?_
  refine zs_callS hE (As := [.int a1, .int (0 : Int32), .int (r3 - (1 : Int32))]) (encA := encI) (met_X1_isBetween K a1 (0 : Int32) (r3 - (1 : Int32))) q1776 q95 q1774 q1775 hd_X1_isBetween (by decide) (by decide) rfl (by simp [zcat_rf, zcat_i, zcat_j, zcat_f, zcat_d]) (fun z hz => by cases hz) dX1_stationAt_14 (fun r4 => ?_)
  show zS _ 17 _ [.int r4] _
  refine zs_callS hE (As := [.int r4]) (encA := encV) (met_X1_checkElement K r4) q2156 q95 q2154 q2155 hd_X1_checkElement (by decide) (by decide) rfl (by simp [zcat_rf, zcat_i, zcat_j, zcat_f, zcat_d]) (fun z hz => by cases hz) dX1_stationAt_17 (fun _ => ?_)
  show zS _ 20 _ [] _
  refine zs_iconst hE (v := (0 : Int32)) (by decide) dX1_stationAt_20 ?_
  refine zs_istore_n hE (i := 2) (q := 2) rfl (by decide) (rfl) (lv' := [(0, va_rf (some this)), (1, .int a1)]) rfl dX1_stationAt_21 ?_
  refine zs_iconst hE (v := (-1 : Int32)) (by decide) dX1_stationAt_22 ?_
  refine zs_istore_n hE (i := 3) (q := 3) rfl (by decide) (rfl) (lv' := [(2, .int (0 : Int32)), (0, va_rf (some this)), (1, .int a1)]) rfl dX1_stationAt_23 ?_
  refine zs_aload_n hE 2 rfl rfl dX1_stationAt_24 ?_
  refine zs_getR hE (ci := 24) (k := 0) rfl (by decide) in_X1 (Or.inl q391) (Or.inl rfl) dX1_stationAt_25 (fun v5 => ?_)
  refine zs_getR hE (ci := 34) (k := 0) rfl (by decide) in_X2 (Or.inr ⟨_, zn q218 rfl⟩) (Or.inl rfl) dX1_stationAt_28 (fun v6 => ?_)
  refine zs_callV hE (As := []) (encA := encR) (ci := 0) rfl (fun y0 => met_J1_values K y0) q427 q98 q1385 q425 (zq q426) hd_J1_values (by decide) (by decide) rfl (by simp [zcat_rf, zcat_i, zcat_j, zcat_f, zcat_d]) (fun z hz => by cases hz) dX1_stationAt_31 (fun r7 => ?_)
  show zS _ 34 _ [va_rf r7] _
  refine zs_callF hE (xx := ⟨"java/util/Collection", "iterator", "()Ljava/util/Iterator;"⟩) (As := []) (encA := encR) (ci := 3) rfl (fun y0 => met_J21_iterator K y0) q831 q122 q1387 (List.mem_of_getElem? (i := 0) rfl) q829 q827 hdx_h1 (by decide) (by decide) rfl (by simp [zcat_rf, zcat_i, zcat_j, zcat_f, zcat_d]) (fun z hz => by cases hz) dX1_stationAt_34 (fun r8 => ?_)
  show zS _ 39 _ [va_rf r8] _
  refine zs_astore hE (i := 4) (by decide) (rfl) (lv' := [(3, .int (-1 : Int32)), (2, .int (0 : Int32)), (0, va_rf (some this)), (1, .int a1)]) rfl dX1_stationAt_39 ?_
  refine zs_sub [4, 2, 1, 0] rfl ?_
  exact sm_X1_stationAt_L41 hE a1 r8 ((0 : Int32), (-1 : Int32))
theorem hd_X1_stationAt : (yX1_stationAt).cls ≠ "java/lang/invoke/MethodHandle" ∧ (yX1_stationAt).cls ≠ "java/lang/invoke/VarHandle" ∧ (parseMethodDescriptor (yX1_stationAt).desc).map (fun d => d.parameters.length) = some 1 := by decide +kernel
theorem met_X1_stationAt (K : ZK) (this : Nat) (a1 : Int32) : zMeth K yX1_stationAt (zws yX1_stationAt cX1_stationAt 6 (Option.some Jvm.ClassFile.FieldType.int)) 7 164 [.ref this, .int a1] encI (s_X1_stationAt K this a1) :=
  fun l G hl hK => zmet_of hl hK (by decide +kernel) rfl rfl (by simp [zsl_nil, zsl_rf, zsl_r, zsl_i, zsl_j, zsl_f, zsl_d]) (fun x hE => by simp only [zla_nil, zla_rf, zla_r, zla_i, zla_j, zla_f, zla_d, Nat.reduceAdd]; exact sm_X1_stationAt hE this a1)
theorem sm_X0_stationAt {x : ZX Int32} {K : ZK} (hE : zE x K cX0_stationAt RX0 "stationAt" 4 8 189 encI (Option.some Jvm.ClassFile.FieldType.int) (tableOf [((0 : Nat), (9 : Nat), (12 : Nat), (46 : Nat))])) (a1 : Option Nat) (a2 : Int32) (a3 : Option Nat) : zS x 0 [(0, va_rf a1), (1, .int a2), (2, va_rf a3)] [] (s_X0_stationAt K a1 a2 a3) := by
  unfold s_X0_stationAt
  refine zs_aload_n hE 2 rfl rfl dX0_stationAt_0 ?_
  refine zs_iconst hE (v := (0 : Int32)) (by decide) dX0_stationAt_1 ?_
  refine zs_aload_n hE 0 rfl rfl dX0_stationAt_2 ?_
  refine zs_iload_n hE 1 rfl rfl dX0_stationAt_3 ?_
  refine zs_callVT hE (As := [.int a2]) (encA := encI) (ci := 24) rfl (fun y0 => met_X1_stationAt K y0 a2) q2153 q95 q2150 q2151 (zq q2152) hd_X1_stationAt (by decide) (by decide) rfl (by simp [zcat_rf, zcat_i, zcat_j, zcat_f, zcat_d]) (zhl_cons (zhnd (tableOf []) (tableOf []) ⟨0, 9, 12, 46⟩ rfl (fun w hw => by cases hw) (by decide) (by decide) q2149 (zn q940 rfl) (fun q1 => ?_)) zhl_nil) dX0_stationAt_4 (fun r2 => ?_)
  · have hE := zE_q q1 3 hE
    have hq := zqin_q (x := x) q1 3
    refine zs_astore_n hE (i := 3) (q := 3) rfl (by decide) (zcat_rf a3) (lv' := [(0, va_rf a1), (1, .int a2), (2, va_rf a3)]) rfl dX0_stationAt_12 ?_
    refine zs_iconst hE (v := (1 : Int32)) (by decide) dX0_stationAt_13 ?_
    exact zs_iret hE dX0_stationAt_14
  · show zS _ 7 _ [.int r2, .int (0 : Int32), va_rf a3] _
    refine zs_i2l hE dX0_stationAt_7 ?_
    refine zs_astJ hE dX0_stationAt_8 ?_
    refine zs_goto hE 15 (by decide) dX0_stationAt_9 ?_
    refine zs_iconst hE (v := (0 : Int32)) (by decide) dX0_stationAt_15 ?_
    exact zs_iret hE dX0_stationAt_16
theorem hd_X0_stationAt : (yX0_stationAt).cls ≠ "java/lang/invoke/MethodHandle" ∧ (yX0_stationAt).cls ≠ "java/lang/invoke/VarHandle" ∧ (parseMethodDescriptor (yX0_stationAt).desc).map (fun d => d.parameters.length) = some 3 := by decide +kernel
theorem met_X0_stationAt (K : ZK) (a1 : Option Nat) (a2 : Int32) (a3 : Option Nat) : zMeth K yX0_stationAt (zwsW yX0_stationAt cX0_stationAt 4 (Option.some Jvm.ClassFile.FieldType.int) [((0 : Nat), (9 : Nat), (12 : Nat), (46 : Nat))]) 8 189 [va_rf a1, .int a2, va_rf a3] encI (s_X0_stationAt K a1 a2 a3) :=
  fun l G hl hK => zmet_ofH hl hK (by decide +kernel) rfl rfl (by simp [zsl_nil, zsl_rf, zsl_r, zsl_i, zsl_j, zsl_f, zsl_d]) (fun x hE => by simp only [zla_nil, zla_rf, zla_r, zla_i, zla_j, zla_f, zla_d, Nat.reduceAdd]; exact sm_X0_stationAt hE a1 a2 a3)
theorem sm_X1_checkIndex {x : ZX Unit} {K : ZK} (hE : zE x K cX1_checkIndex RX1 "checkIndex" 1 6 120 encV none []) (a1 : Int32) : zS x 0 [(0, .int a1)] [] (s_X1_checkIndex K a1) := by
  unfold s_X1_checkIndex
  refine zs_iload_n hE 0 rfl rfl dX1_checkIndex_0 ?_
  refine zs_if_ne hE 12 (by decide) dX1_checkIndex_1 ?_ ?_
  · exact zs_throw hE (ik := 60) (ic := 62) (ci := 2) (by decide) (by decide +kernel) q2176 q140 zth_2 zthg_2 (by decide) (by decide) (fun z hz => by cases hz) dX1_checkIndex_4 dX1_checkIndex_7 dX1_checkIndex_8 dX1_checkIndex_11
  · exact zs_vret hE dX1_checkIndex_12
theorem hd_X1_checkIndex : (yX1_checkIndex).cls ≠ "java/lang/invoke/MethodHandle" ∧ (yX1_checkIndex).cls ≠ "java/lang/invoke/VarHandle" ∧ (parseMethodDescriptor (yX1_checkIndex).desc).map (fun d => d.parameters.length) = some 1 := by decide +kernel
theorem met_X1_checkIndex (K : ZK) (a1 : Int32) : zMeth K yX1_checkIndex (zws yX1_checkIndex cX1_checkIndex 1 none) 6 120 [.int a1] encV (s_X1_checkIndex K a1) :=
  fun l G hl hK => zmet_of hl hK (by decide +kernel) rfl rfl (by simp [zsl_nil, zsl_rf, zsl_r, zsl_i, zsl_j, zsl_f, zsl_d]) (fun x hE => by simp only [zla_nil, zla_rf, zla_r, zla_i, zla_j, zla_f, zla_d, Nat.reduceAdd]; exact sm_X1_checkIndex hE a1)
theorem sm_X1_station0 {x : ZX (Option Nat)} {K : ZK} (hE : zE x K cX1_station0 RX1 "station0" 2 7 229 encR (Option.some (Jvm.ClassFile.FieldType.object "TokenRing$Station")) []) (this : Nat) (a1 : Int32) : zS x 0 [(0, va_rf (some this)), (1, .int a1)] [] (s_X1_station0 K this a1) := by
  unfold s_X1_station0
  refine zs_aload_n hE 0 rfl rfl dX1_station0_0 ?_
  refine zs_iload_n hE 1 rfl rfl dX1_station0_1 ?_
  refine zs_callV hE (As := [.int a1]) (encA := encI) (ci := 24) rfl (fun y0 => met_X1_isStation K y0 a1) q1818 q95 q1815 q1817 (zq qs12) hd_X1_isStation (by decide) (by decide) rfl (by simp [zcat_rf, zcat_i, zcat_j, zcat_f, zcat_d]) (fun z hz => by cases hz) dX1_station0_2 (fun r1 => ?_)
  show zS _ 5 _ [.int r1] _
  refine zs_callS hE (As := [.int r1]) (encA := encV) (met_X1_checkIndex K r1) q2175 q95 q2173 q2174 hd_X1_checkIndex (by decide) (by decide) rfl (by simp [zcat_rf, zcat_i, zcat_j, zcat_f, zcat_d]) (fun z hz => by cases hz) dX1_station0_5 (fun _ => ?_)
  show zS _ 8 _ [] _
  refine zs_aload_n hE 0 rfl rfl dX1_station0_8 ?_
  refine zs_getR hE (ci := 24) (k := 0) rfl (by decide) in_X1 (Or.inl q391) (Or.inl rfl) dX1_station0_9 (fun v2 => ?_)
  refine zs_getR hE (ci := 34) (k := 0) rfl (by decide) in_X2 (Or.inr ⟨_, zn q218 rfl⟩) (Or.inl rfl) dX1_station0_12 (fun v3 => ?_)
  refine zs_iload_n hE 1 rfl rfl dX1_station0_15 ?_
  refine zs_callS hE (As := [.int a1]) (encA := encR) (met_J13_valueOf K a1) q904 q112 q1819 q903 hd_J13_valueOf (by decide) (by decide) rfl (by simp [zcat_rf, zcat_i, zcat_j, zcat_f, zcat_d]) (fun z hz => by cases hz) dX1_station0_16 (fun r4 => ?_)
  show zS _ 19 _ [va_rf r4, va_rf v3] _
  refine zs_callV hE (As := [va_rf r4]) (encA := encR) (ci := 0) rfl (fun y0 => met_J1_get K y0 r4) q1015 q98 q1893 q1013 (zq q1014) hd_J1_get (by decide) (by decide) rfl (by simp [zcat_rf, zcat_i, zcat_j, zcat_f, zcat_d]) (fun z hz => by cases hz) dX1_station0_19 (fun r5 => ?_)
  show zS _ 22 _ [va_rf r5] _
  refine zs_cast hE q1392 (zc1 rfl (Or.inl rfl)) dX1_station0_22 ?_
  exact zs_aret hE (Or.inl ⟨_, rfl⟩) dX1_station0_25
theorem hd_X1_station0 : (yX1_station0).cls ≠ "java/lang/invoke/MethodHandle" ∧ (yX1_station0).cls ≠ "java/lang/invoke/VarHandle" ∧ (parseMethodDescriptor (yX1_station0).desc).map (fun d => d.parameters.length) = some 1 := by decide +kernel
theorem met_X1_station0 (K : ZK) (this : Nat) (a1 : Int32) : zMeth K yX1_station0 (zws yX1_station0 cX1_station0 2 (Option.some (Jvm.ClassFile.FieldType.object "TokenRing$Station"))) 7 229 [.ref this, .int a1] encR (s_X1_station0 K this a1) :=
  fun l G hl hK => zmet_of hl hK (by decide +kernel) rfl rfl (by simp [zsl_nil, zsl_rf, zsl_r, zsl_i, zsl_j, zsl_f, zsl_d]) (fun x hE => by simp only [zla_nil, zla_rf, zla_r, zla_i, zla_j, zla_f, zla_d, Nat.reduceAdd]; exact sm_X1_station0 hE this a1)
theorem sm_X1_waits {x : ZX Int32} {K : ZK} (hE : zE x K cX1_waits RX1 "waits" 4 8 250 encI (Option.some Jvm.ClassFile.FieldType.int) []) (this : Nat) (a1 : Int32) (a2 : Int32) : zS x 0 [(0, va_rf (some this)), (1, .int a1), (2, .int a2)] [] (s_X1_waits K this a1 a2) := by
  unfold s_X1_waits
  refine zs_aload_n hE 0 rfl rfl dX1_waits_0 ?_
  refine zs_iload_n hE 1 rfl rfl dX1_waits_1 ?_
  refine zs_callV hE (As := [.int a1]) (encA := encR) (ci := 24) rfl (fun y0 => met_X1_station0 K y0 a1) q2172 q95 q2169 q2171 (zq qs28) hd_X1_station0 (by decide) (by decide) rfl (by simp [zcat_rf, zcat_i, zcat_j, zcat_f, zcat_d]) (fun z hz => by cases hz) dX1_waits_2 (fun r1 => ?_)
  show zS _ 5 _ [va_rf r1] _
  refine zs_getR hE (ci := 37) (k := 1) rfl (by decide) in_X5 (Or.inr ⟨_, zn q1555 rfl⟩) (Or.inl rfl) dX1_waits_5 (fun v2 => ?_)
  refine zs_astore_n hE (i := 3) (q := 3) rfl (by decide) (rfl) (lv' := [(0, va_rf (some this)), (1, .int a1), (2, .int a2)]) rfl dX1_waits_8 ?_
  refine zs_iload_n hE 3 rfl rfl dX1_waits_9 ?_
  refine zs_iconst hE (v := (0 : Int32)) (by decide) dX1_waits_10 ?_
  refine zs_aload_n hE 0 rfl rfl dX1_waits_11 ?_
  refine zs_callV hE (As := []) (encA := encI) (ci := 11) rfl (fun y0 => met_J31_size K y0) q1102 q133 q1924 q1100 (zq q1101) hd_J31_size (by decide) (by decide) rfl (by simp [zcat_rf, zcat_i, zcat_j, zcat_f, zcat_d]) (fun z hz => by cases hz) dX1_waits_12 (fun r3 => ?_)
  show zS _ 15 _ [.int r3, .int (0 : Int32), .int a2] _
  refine zs_iconst hE (v := (1 : Int32)) (by decide) dX1_waits_15 ?_
  refine zs_isub hE dX1_waits_16 ?_
  refine zs_callS hE (As := [.int a2, .int (0 : Int32), .int (r3 - (1 : Int32))]) (encA := encI) (met_X1_isBetween K a2 (0 : Int32) (r3 - (1 : Int32))) q1776 q95 q1774 q1775 hd_X1_isBetween (by decide) (by decide) rfl (by simp [zcat_rf, zcat_i, zcat_j, zcat_f, zcat_d]) (fun z hz => by cases hz) dX1_waits_17 (fun r4 => ?_)
  show zS _ 20 _ [.int r4] _
  refine zs_callS hE (As := [.int r4]) (encA := encV) (met_X1_checkElement K r4) q2156 q95 q2154 q2155 hd_X1_checkElement (by decide) (by decide) rfl (by simp [zcat_rf, zcat_i, zcat_j, zcat_f, zcat_d]) (fun z hz => by cases hz) dX1_waits_20 (fun _ => ?_)
  show zS _ 23 _ [] _
  refine zs_aload_n hE 0 rfl rfl dX1_waits_23 ?_
  refine zs_iload_n hE 3 rfl rfl dX1_waits_24 ?_
  refine zs_callV hE (As := [.int a2]) (encA := encR) (ci := 11) rfl (fun y0 => met_J31_get K y0 a2) q1968 q133 q2181 q1966 (zq q1967) hd_J31_get (by decide) (by decide) rfl (by simp [zcat_rf, zcat_i, zcat_j, zcat_f, zcat_d]) (fun z hz => by cases hz) dX1_waits_25 (fun r5 => ?_)
  show zS _ 28 _ [va_rf r5] _
  refine zs_cast hE q1925 (zc1 rfl (Or.inl rfl)) dX1_waits_28 ?_
  refine zs_getI hE (ci := 39) (k := 0) rfl (by decide) in_X7 (Or.inr ⟨_, zn q1934 rfl⟩) (Or.inl rfl) dX1_waits_31 (fun v6 => ?_)
  exact zs_iret hE dX1_waits_34
theorem hd_X1_waits : (yX1_waits).cls ≠ "java/lang/invoke/MethodHandle" ∧ (yX1_waits).cls ≠ "java/lang/invoke/VarHandle" ∧ (parseMethodDescriptor (yX1_waits).desc).map (fun d => d.parameters.length) = some 2 := by decide +kernel
theorem met_X1_waits (K : ZK) (this : Nat) (a1 : Int32) (a2 : Int32) : zMeth K yX1_waits (zws yX1_waits cX1_waits 4 (Option.some Jvm.ClassFile.FieldType.int)) 8 250 [.ref this, .int a1, .int a2] encI (s_X1_waits K this a1 a2) :=
  fun l G hl hK => zmet_of hl hK (by decide +kernel) rfl rfl (by simp [zsl_nil, zsl_rf, zsl_r, zsl_i, zsl_j, zsl_f, zsl_d]) (fun x hE => by simp only [zla_nil, zla_rf, zla_r, zla_i, zla_j, zla_f, zla_d, Nat.reduceAdd]; exact sm_X1_waits hE this a1 a2)
theorem sm_X0_waits {x : ZX Int32} {K : ZK} (hE : zE x K cX0_waits RX0 "waits" 5 9 273 encI (Option.some Jvm.ClassFile.FieldType.int) (tableOf [((0 : Nat), (10 : Nat), (13 : Nat), (52 : Nat)), ((0 : Nat), (10 : Nat), (17 : Nat), (46 : Nat))])) (a1 : Option Nat) (a2 : Int32) (a3 : Int32) (a4 : Option Nat) : zS x 0 [(0, va_rf a1), (1, .int a2), (2, .int a3), (3, va_rf a4)] [] (s_X0_waits K a1 a2 a3 a4) := by
  unfold s_X0_waits
  refine zs_aload_n hE 3 rfl rfl dX0_waits_0 ?_
  refine zs_iconst hE (v := (0 : Int32)) (by decide) dX0_waits_1 ?_
  refine zs_aload_n hE 0 rfl rfl dX0_waits_2 ?_
  refine zs_iload_n hE 1 rfl rfl dX0_waits_3 ?_
  refine zs_iload_n hE 2 rfl rfl dX0_waits_4 ?_
  refine zs_callVT hE (As := [.int a2, .int a3]) (encA := encI) (ci := 24) rfl (fun y0 => met_X1_waits K y0 a2 a3) q2168 q95 q2165 q2166 (zq q2167) hd_X1_waits (by decide) (by decide) rfl (by simp [zcat_rf, zcat_i, zcat_j, zcat_f, zcat_d]) (zhl_cons (zhnd (tableOf []) (tableOf [(0, 10, 17, 46)]) ⟨0, 10, 13, 52⟩ rfl (fun w hw => by cases hw) (by decide) (by decide) q2162 (zn q1987 rfl) (fun q1 => ?_)) (zhl_cons (zhnd (tableOf [(0, 10, 13, 52)]) (tableOf []) ⟨0, 10, 17, 46⟩ rfl (fun w hw => by obtain rfl := List.mem_singleton.mp hw; exact Or.inr ⟨by decide, "java/lang/IndexOutOfBoundsException", q2162, List.mem_of_getElem? (i := 0) rfl⟩) (by decide) (by decide) q2149 (zn q940 rfl) (fun q2 => ?_)) zhl_nil)) dX0_waits_5 (fun r3 => ?_)
  · have hE := zE_q q1 2 hE
    have hq := zqin_q (x := x) q1 2
    refine zs_astore hE (i := 4) (by decide) (zcat_rf a4) (lv' := [(0, va_rf a1), (1, .int a2), (2, .int a3), (3, va_rf a4)]) rfl dX0_waits_13 ?_
    refine zs_iconst hE (v := (1 : Int32)) (by decide) dX0_waits_15 ?_
    exact zs_iret hE dX0_waits_16
  · have hE := zE_q q2 3 hE
    have hq := zqin_q (x := x) q2 3
    refine zs_astore hE (i := 4) (by decide) (zcat_rf a4) (lv' := [(0, va_rf a1), (1, .int a2), (2, .int a3), (3, va_rf a4)]) rfl dX0_waits_17 ?_
    refine zs_iconst hE (v := (2 : Int32)) (by decide) dX0_waits_19 ?_
    exact zs_iret hE dX0_waits_20
  · show zS _ 8 _ [.int r3, .int (0 : Int32), va_rf a4] _
    refine zs_i2l hE dX0_waits_8 ?_
    refine zs_astJ hE dX0_waits_9 ?_
    refine zs_goto hE 21 (by decide) dX0_waits_10 ?_
    refine zs_iconst hE (v := (0 : Int32)) (by decide) dX0_waits_21 ?_
    exact zs_iret hE dX0_waits_22
theorem hd_X0_waits : (yX0_waits).cls ≠ "java/lang/invoke/MethodHandle" ∧ (yX0_waits).cls ≠ "java/lang/invoke/VarHandle" ∧ (parseMethodDescriptor (yX0_waits).desc).map (fun d => d.parameters.length) = some 4 := by decide +kernel
theorem met_X0_waits (K : ZK) (a1 : Option Nat) (a2 : Int32) (a3 : Int32) (a4 : Option Nat) : zMeth K yX0_waits (zwsW yX0_waits cX0_waits 5 (Option.some Jvm.ClassFile.FieldType.int) [((0 : Nat), (10 : Nat), (13 : Nat), (52 : Nat)), ((0 : Nat), (10 : Nat), (17 : Nat), (46 : Nat))]) 9 273 [va_rf a1, .int a2, .int a3, va_rf a4] encI (s_X0_waits K a1 a2 a3 a4) :=
  fun l G hl hK => zmet_ofH hl hK (by decide +kernel) rfl rfl (by simp [zsl_nil, zsl_rf, zsl_r, zsl_i, zsl_j, zsl_f, zsl_d]) (fun x hE => by simp only [zla_nil, zla_rf, zla_r, zla_i, zla_j, zla_f, zla_d, Nat.reduceAdd]; exact sm_X0_waits hE a1 a2 a3 a4)
theorem sm_X2_whereIs_B66 {x : ZX Int32} {K : ZK} (hE : zE x K cX2_whereIs RX2 "whereIs" 6 4 164 encI (Option.some Jvm.ClassFile.FieldType.int) []) (x1 : Int32) (x2 : Option Nat) (x3 : Option Nat) (x4 : Option Nat) (self38 : Unit → ZP Int32) (self66 : Unit → ZP Int32) (hs38 : ∀ v : Unit, zS x 38 [(1, .int x1), (2, va_rf x2)] [] (self38 v)) (hs66 : ∀ v : Unit, zS x 66 [(1, .int x1), (2, va_rf x2), (3, va_rf x3), (4, va_rf x4)] [] (self66 v)) : zS x 66 [(1, .int x1), (2, va_rf x2), (3, va_rf x3), (4, va_rf x4)] [] (s_X2_whereIs_B66 K x1 x2 x3 x4 self38 self66) := by
  unfold s_X2_whereIs_B66
  refine zs_aload hE 3 rfl dX2_whereIs_66 ?_
  refine zs_callF hE (xx := ⟨"java/util/Iterator", "hasNext", "()Z"⟩) (As := []) (encA := encI) (ci := 5) rfl (fun y0 => met_J23_hasNext K y0) q869 q124 q845 (List.mem_of_getElem? (i := 3) rfl) q867 q865 hdx_h2 (by decide) (by decide) rfl (by simp [zcat_rf, zcat_i, zcat_j, zcat_f, zcat_d]) (fun z hz => by cases hz) dX2_whereIs_68 (fun r12 => ?_)
  show zS _ 73 _ [.int r12] _
  refine zs_if_eq hE 105 (by decide) dX2_whereIs_73 ?_ ?_
  · refine zs_goto hE 38 (by decide) dX2_whereIs_105 ?_
    refine zs_sub [0, 1] rfl ?_
    exact hs38 ()
  · refine zs_aload hE 3 rfl dX2_whereIs_76 ?_
    refine zs_callF hE (xx := ⟨"java/util/Iterator", "next", "()Ljava/lang/Object;"⟩) (As := []) (encA := encR) (ci := 5) rfl (fun y0 => met_J23_next K y0) q1045 q124 q886 (List.mem_of_getElem? (i := 4) rfl) q1043 q1041 hdx_h4 (by decide) (by decide) rfl (by simp [zcat_rf, zcat_i, zcat_j, zcat_f, zcat_d]) (fun z hz => by cases hz) dX2_whereIs_78 (fun r13 => ?_)
    show zS _ 83 _ [va_rf r13] _
    refine zs_cast hE q2198 (zc1 rfl (Or.inl rfl)) dX2_whereIs_83 ?_
    refine zs_astore hE (i := 5) (by decide) (zcat_rf x4) (lv' := [(1, .int x1), (2, va_rf x2), (3, va_rf x3), (4, va_rf x4)]) rfl dX2_whereIs_86 ?_
    refine zs_aload hE 0 rfl dX2_whereIs_88 ?_
    refine zs_getI hE (ci := 39) (k := 0) rfl (by decide) in_X7 (Or.inr ⟨_, zn q1933 rfl⟩) (Or.inl rfl) dX2_whereIs_90 (fun v14 => ?_)
    refine zs_iload_n hE 1 rfl rfl dX2_whereIs_93 ?_
    refine zs_icmp_ne hE 102 (by decide) dX2_whereIs_94 ?_ ?_
    · refine zs_aload_n hE 3 rfl rfl dX2_whereIs_97 ?_
      refine zs_getI hE (ci := 37) (k := 0) rfl (by decide) in_X5 (Or.inr ⟨_, zn q1547 rfl⟩) (Or.inl rfl) dX2_whereIs_98 (fun v15 => ?_)
      exact zs_iret hE dX2_whereIs_101
    · refine zs_goto hE 66 (by decide) dX2_whereIs_102 ?_
      refine zs_sub [1, 2, 3, 4] rfl ?_
      exact hs66 ()
theorem sm_X2_whereIs_L66 {x : ZX Int32} {K : ZK} (hE : zE x K cX2_whereIs RX2 "whereIs" 6 4 164 encI (Option.some Jvm.ClassFile.FieldType.int) []) (x1 : Int32) (x2 : Option Nat) (x3 : Option Nat) (x4 : Option Nat) (self38 : Unit → ZP Int32) (hs38 : ∀ v : Unit, zS x 38 [(1, .int x1), (2, va_rf x2)] [] (self38 v)) (v : Unit) : zS x 66 [(1, .int x1), (2, va_rf x2), (3, va_rf x3), (4, va_rf x4)] [] (s_X2_whereIs_L66 K x1 x2 x3 x4 self38 v) := by
  unfold s_X2_whereIs_L66
  exact zs_loop (lvf := fun v => [(1, .int x1), (2, va_rf x2), (3, va_rf x3), (4, va_rf x4)]) (fun self66 hs66 v => sm_X2_whereIs_B66 hE x1 x2 x3 x4 self38 self66 hs38 hs66) v
theorem sm_X2_whereIs_B38 {x : ZX Int32} {K : ZK} (hE : zE x K cX2_whereIs RX2 "whereIs" 6 4 164 encI (Option.some Jvm.ClassFile.FieldType.int) []) (x1 : Int32) (x2 : Option Nat) (self38 : Unit → ZP Int32) (hs38 : ∀ v : Unit, zS x 38 [(1, .int x1), (2, va_rf x2)] [] (self38 v)) : zS x 38 [(1, .int x1), (2, va_rf x2)] [] (s_X2_whereIs_B38 K x1 x2 self38) := by
  unfold s_X2_whereIs_B38
  refine zs_aload_n hE 1 rfl rfl dX2_whereIs_38 ?_
  refine zs_callF hE (xx := ⟨"java/util/Iterator", "hasNext", "()Z"⟩) (As := []) (encA := encI) (ci := 8) rfl (fun y0 => met_J26_hasNext__J28 K y0) q875 q127 q845 (List.mem_of_getElem? (i := 1) rfl) q873 q883 hdx_h2 (by decide) (by decide) rfl (by simp [zcat_rf, zcat_i, zcat_j, zcat_f, zcat_d]) (fun z hz => by cases hz) dX2_whereIs_39 (fun r8 => ?_)
  show zS _ 44 _ [.int r8] _
  refine zs_if_eq hE 108 (by decide) dX2_whereIs_44 ?_ ?_
  · refine zs_iconst hE (v := (-1 : Int32)) (by decide) dX2_whereIs_108 ?_
    exact zs_iret hE dX2_whereIs_109
  · refine zs_aload_n hE 1 rfl rfl dX2_whereIs_47 ?_
    refine zs_callF hE (xx := ⟨"java/util/Iterator", "next", "()Ljava/lang/Object;"⟩) (As := []) (encA := encR) (ci := 8) rfl (fun y0 => met_J28_next K y0) q1094 q129 q886 (List.mem_of_getElem? (i := 2) rfl) q1092 q1090 hdx_h4 (by decide) (by decide) rfl (by simp [zcat_rf, zcat_i, zcat_j, zcat_f, zcat_d]) (fun z hz => by cases hz) dX2_whereIs_48 (fun r9 => ?_)
    show zS _ 53 _ [va_rf r9] _
    refine zs_cast hE q1098 (zc1 rfl (Or.inl rfl)) dX2_whereIs_53 ?_
    refine zs_astore_n hE (i := 3) (q := 3) rfl (by decide) (zcat_rf x2) (lv' := [(1, .int x1), (2, va_rf x2)]) rfl dX2_whereIs_56 ?_
    refine zs_aload_n hE 0 rfl rfl dX2_whereIs_57 ?_
    refine zs_getR hE (ci := 37) (k := 1) rfl (by decide) in_X5 (Or.inr ⟨_, zn q1554 rfl⟩) (Or.inl rfl) dX2_whereIs_58 (fun v10 => ?_)
    refine zs_callV hE (As := []) (encA := encR) (ci := 11) rfl (fun y0 => met_J31_iterator K y0) q479 q133 q2197 q477 (zq q3299) hd_J31_iterator (by decide) (by decide) rfl (by simp [zcat_rf, zcat_i, zcat_j, zcat_f, zcat_d]) (fun z hz => by cases hz) dX2_whereIs_61 (fun r11 => ?_)
    show zS _ 64 _ [va_rf r11] _
    refine zs_astore hE (i := 4) (by decide) (zcat_rf r9) (lv' := [(3, va_rf r9), (1, .int x1), (2, va_rf x2)]) rfl dX2_whereIs_64 ?_
    refine zs_sub [2, 3, 1, 0] rfl ?_
    exact sm_X2_whereIs_L66 hE x1 x2 r9 r11 self38 hs38 ()
theorem sm_X2_whereIs_L38 {x : ZX Int32} {K : ZK} (hE : zE x K cX2_whereIs RX2 "whereIs" 6 4 164 encI (Option.some Jvm.ClassFile.FieldType.int) []) (x1 : Int32) (x2 : Option Nat) (v : Unit) : zS x 38 [(1, .int x1), (2, va_rf x2)] [] (s_X2_whereIs_L38 K x1 x2 v) := by
  unfold s_X2_whereIs_L38
  exact zs_loop (lvf := fun v => [(1, .int x1), (2, va_rf x2)]) (fun self38 hs38 v => sm_X2_whereIs_B38 hE x1 x2 self38 hs38) v
theorem sm_X2_whereIs_J25 {x : ZX Int32} {K : ZK} (hE : zE x K cX2_whereIs RX2 "whereIs" 6 4 164 encI (Option.some Jvm.ClassFile.FieldType.int) []) (x0 : Nat) (x1 : Int32) : zS x 25 [(0, va_rf (some x0)), (1, .int x1)] [] (s_X2_whereIs_J25 K x0 x1) := by
  unfold s_X2_whereIs_J25
  refine zs_aload_n hE 0 rfl rfl dX2_whereIs_25 ?_
  refine zs_getR hE (ci := 34) (k := 0) rfl (by decide) in_X2 (Or.inl q215) (Or.inl rfl) dX2_whereIs_26 (fun v5 => ?_)
  refine zs_callV hE (As := []) (encA := encR) (ci := 0) rfl (fun y0 => met_J1_values K y0) q427 q98 q424 q425 (zq q426) hd_J1_values (by decide) (by decide) rfl (by simp [zcat_rf, zcat_i, zcat_j, zcat_f, zcat_d]) (fun z hz => by cases hz) dX2_whereIs_29 (fun r6 => ?_)
  show zS _ 32 _ [va_rf r6] _
  refine zs_callF hE (xx := ⟨"java/util/Collection", "iterator", "()Ljava/util/Iterator;"⟩) (As := []) (encA := encR) (ci := 3) rfl (fun y0 => met_J21_iterator K y0) q831 q122 q439 (List.mem_of_getElem? (i := 0) rfl) q829 q827 hdx_h1 (by decide) (by decide) rfl (by simp [zcat_rf, zcat_i, zcat_j, zcat_f, zcat_d]) (fun z hz => by cases hz) dX2_whereIs_32 (fun r7 => ?_)
  show zS _ 37 _ [va_rf r7] _
  refine zs_astore_n hE (i := 2) (q := 2) rfl (by decide) (rfl) (lv' := [(0, va_rf (some x0)), (1, .int x1)]) rfl dX2_whereIs_37 ?_
  refine zs_sub [2, 0] rfl ?_
  exact sm_X2_whereIs_L38 hE x1 r7 ()
theorem sm_X2_whereIs {x : ZX Int32} {K : ZK} (hE : zE x K cX2_whereIs RX2 "whereIs" 6 4 164 encI (Option.some Jvm.ClassFile.FieldType.int) []) (this : Nat) (a1 : Int32) : zS x 0 [(0, va_rf (some this)), (1, .int a1)] [] (s_X2_whereIs K this a1) := by
  unfold s_X2_whereIs
  refine zs_aload_n hE 0 rfl rfl dX2_whereIs_0 ?_
  refine zs_getI hE (ci := 34) (k := 1) rfl (by decide) in_X2 (Or.inl q219) (Or.inl rfl) dX2_whereIs_1 (fun v1 => ?_)
  refine zs_iconst hE (v := (2 : Int32)) (by decide) dX2_whereIs_4 ?_
  refine zs_icmp_ne hE 25 (by decide) dX2_whereIs_5 ?_ ?_
  · refine zs_aload_n hE 0 rfl rfl dX2_whereIs_8 ?_
    refine zs_getR hE (ci := 34) (k := 5) rfl (by decide) in_X2 (Or.inl q230) (Or.inl rfl) dX2_whereIs_9 (fun v2 => ?_)
    refine zs_getR hE (ci := 38) (k := 0) rfl (by decide) in_X6 (Or.inr ⟨_, zn q1738 rfl⟩) (Or.inl rfl) dX2_whereIs_12 (fun v3 => ?_)
    refine zs_getI hE (ci := 39) (k := 0) rfl (by decide) in_X7 (Or.inr ⟨_, zn q1933 rfl⟩) (Or.inl rfl) dX2_whereIs_15 (fun v4 => ?_)
    refine zs_iload_n hE 1 rfl rfl dX2_whereIs_18 ?_
    refine zs_icmp_ne hE 25 (by decide) dX2_whereIs_19 ?_ ?_
    · refine zs_bipush hE (v := (100 : Int32)) (by decide) dX2_whereIs_22 ?_
      exact zs_iret hE dX2_whereIs_24
    · exact sm_X2_whereIs_J25 hE this a1
  · exact sm_X2_whereIs_J25 hE this a1
theorem hd_X2_whereIs : (yX2_whereIs).cls ≠ "java/lang/invoke/MethodHandle" ∧ (yX2_whereIs).cls ≠ "java/lang/invoke/VarHandle" ∧ (parseMethodDescriptor (yX2_whereIs).desc).map (fun d => d.parameters.length) = some 1 := by decide +kernel
theorem met_X2_whereIs (K : ZK) (this : Nat) (a1 : Int32) : zMeth K yX2_whereIs (zws yX2_whereIs cX2_whereIs 6 (Option.some Jvm.ClassFile.FieldType.int)) 4 164 [.ref this, .int a1] encI (s_X2_whereIs K this a1) :=
  fun l G hl hK => zmet_of hl hK (by decide +kernel) rfl rfl (by simp [zsl_nil, zsl_rf, zsl_r, zsl_i, zsl_j, zsl_f, zsl_d]) (fun x hE => by simp only [zla_nil, zla_rf, zla_r, zla_i, zla_j, zla_f, zla_d, Nat.reduceAdd]; exact sm_X2_whereIs hE this a1)
theorem sm_X1_find_B68 {x : ZX (Option Nat)} {K : ZK} (hE : zE x K cX1_find RX1 "find" 6 5 189 encR (Option.some (Jvm.ClassFile.FieldType.object "TokenRing$Frame")) []) (x1 : Int32) (x2 : Option Nat) (x4 : Option Nat) (self40 : Unit → ZP (Option Nat)) (self68 : Unit → ZP (Option Nat)) (hs40 : ∀ v : Unit, zS x 40 [(1, .int x1), (2, va_rf x2)] [] (self40 v)) (hs68 : ∀ v : Unit, zS x 68 [(1, .int x1), (2, va_rf x2), (4, va_rf x4)] [] (self68 v)) : zS x 68 [(1, .int x1), (2, va_rf x2), (4, va_rf x4)] [] (s_X1_find_B68 K x1 x2 x4 self40 self68) := by
  unfold s_X1_find_B68
  refine zs_aload hE 2 rfl dX1_find_68 ?_
  refine zs_callF hE (xx := ⟨"java/util/Iterator", "hasNext", "()Z"⟩) (As := []) (encA := encI) (ci := 5) rfl (fun y0 => met_J23_hasNext K y0) q869 q124 q1389 (List.mem_of_getElem? (i := 3) rfl) q867 q865 hdx_h2 (by decide) (by decide) rfl (by simp [zcat_rf, zcat_i, zcat_j, zcat_f, zcat_d]) (fun z hz => by cases hz) dX1_find_70 (fun r14 => ?_)
  show zS _ 75 _ [.int r14] _
  refine zs_if_eq hE 105 (by decide) dX1_find_75 ?_ ?_
  · refine zs_goto hE 40 (by decide) dX1_find_105 ?_
    refine zs_sub [0, 1] rfl ?_
    exact hs40 ()
  · refine zs_aload hE 2 rfl dX1_find_78 ?_
    refine zs_callF hE (xx := ⟨"java/util/Iterator", "next", "()Ljava/lang/Object;"⟩) (As := []) (encA := encR) (ci := 5) rfl (fun y0 => met_J23_next K y0) q1045 q124 q1391 (List.mem_of_getElem? (i := 4) rfl) q1043 q1041 hdx_h4 (by decide) (by decide) rfl (by simp [zcat_rf, zcat_i, zcat_j, zcat_f, zcat_d]) (fun z hz => by cases hz) dX1_find_80 (fun r15 => ?_)
    show zS _ 85 _ [va_rf r15] _
    refine zs_cast hE q1925 (zc1 rfl (Or.inl rfl)) dX1_find_85 ?_
    refine zs_astore hE (i := 5) (by decide) (zcat_rf x4) (lv' := [(1, .int x1), (2, va_rf x2), (4, va_rf x4)]) rfl dX1_find_88 ?_
    refine zs_aload hE 0 rfl dX1_find_90 ?_
    refine zs_getI hE (ci := 39) (k := 0) rfl (by decide) in_X7 (Or.inr ⟨_, zn q1934 rfl⟩) (Or.inl rfl) dX1_find_92 (fun v16 => ?_)
    refine zs_iload_n hE 1 rfl rfl dX1_find_95 ?_
    refine zs_icmp_ne hE 102 (by decide) dX1_find_96 ?_ ?_
    · refine zs_aload hE 0 rfl dX1_find_99 ?_
      exact zs_aret hE (Or.inl ⟨_, rfl⟩) dX1_find_101
    · refine zs_goto hE 68 (by decide) dX1_find_102 ?_
      refine zs_sub [1, 2, 3] rfl ?_
      exact hs68 ()
theorem sm_X1_find_L68 {x : ZX (Option Nat)} {K : ZK} (hE : zE x K cX1_find RX1 "find" 6 5 189 encR (Option.some (Jvm.ClassFile.FieldType.object "TokenRing$Frame")) []) (x1 : Int32) (x2 : Option Nat) (x4 : Option Nat) (self40 : Unit → ZP (Option Nat)) (hs40 : ∀ v : Unit, zS x 40 [(1, .int x1), (2, va_rf x2)] [] (self40 v)) (v : Unit) : zS x 68 [(1, .int x1), (2, va_rf x2), (4, va_rf x4)] [] (s_X1_find_L68 K x1 x2 x4 self40 v) := by
  unfold s_X1_find_L68
  exact zs_loop (lvf := fun v => [(1, .int x1), (2, va_rf x2), (4, va_rf x4)]) (fun self68 hs68 v => sm_X1_find_B68 hE x1 x2 x4 self40 self68 hs40 hs68) v
theorem sm_X1_find_B40 {x : ZX (Option Nat)} {K : ZK} (hE : zE x K cX1_find RX1 "find" 6 5 189 encR (Option.some (Jvm.ClassFile.FieldType.object "TokenRing$Frame")) []) (x1 : Int32) (x2 : Option Nat) (self40 : Unit → ZP (Option Nat)) (hs40 : ∀ v : Unit, zS x 40 [(1, .int x1), (2, va_rf x2)] [] (self40 v)) : zS x 40 [(1, .int x1), (2, va_rf x2)] [] (s_X1_find_B40 K x1 x2 self40) := by
  unfold s_X1_find_B40
  refine zs_aload_n hE 1 rfl rfl dX1_find_40 ?_
  refine zs_callF hE (xx := ⟨"java/util/Iterator", "hasNext", "()Z"⟩) (As := []) (encA := encI) (ci := 8) rfl (fun y0 => met_J26_hasNext__J28 K y0) q875 q127 q1389 (List.mem_of_getElem? (i := 1) rfl) q873 q883 hdx_h2 (by decide) (by decide) rfl (by simp [zcat_rf, zcat_i, zcat_j, zcat_f, zcat_d]) (fun z hz => by cases hz) dX1_find_41 (fun r10 => ?_)
  show zS _ 46 _ [.int r10] _
  refine zs_if_eq hE 108 (by decide) dX1_find_46 ?_ ?_
  · refine zs_null hE dX1_find_108 ?_
    exact zs_aret hE (Or.inl ⟨_, rfl⟩) dX1_find_109
  · refine zs_aload_n hE 1 rfl rfl dX1_find_49 ?_
    refine zs_callF hE (xx := ⟨"java/util/Iterator", "next", "()Ljava/lang/Object;"⟩) (As := []) (encA := encR) (ci := 8) rfl (fun y0 => met_J28_next K y0) q1094 q129 q1391 (List.mem_of_getElem? (i := 2) rfl) q1092 q1090 hdx_h4 (by decide) (by decide) rfl (by simp [zcat_rf, zcat_i, zcat_j, zcat_f, zcat_d]) (fun z hz => by cases hz) dX1_find_50 (fun r11 => ?_)
    show zS _ 55 _ [va_rf r11] _
    refine zs_cast hE q1392 (zc1 rfl (Or.inl rfl)) dX1_find_55 ?_
    refine zs_astore_n hE (i := 3) (q := 3) rfl (by decide) (zcat_rf x2) (lv' := [(1, .int x1), (2, va_rf x2)]) rfl dX1_find_58 ?_
    refine zs_aload_n hE 0 rfl rfl dX1_find_59 ?_
    refine zs_getR hE (ci := 37) (k := 1) rfl (by decide) in_X5 (Or.inr ⟨_, zn q1555 rfl⟩) (Or.inl rfl) dX1_find_60 (fun v12 => ?_)
    refine zs_callV hE (As := []) (encA := encR) (ci := 11) rfl (fun y0 => met_J31_iterator K y0) q479 q133 q2199 q477 (zq q3299) hd_J31_iterator (by decide) (by decide) rfl (by simp [zcat_rf, zcat_i, zcat_j, zcat_f, zcat_d]) (fun z hz => by cases hz) dX1_find_63 (fun r13 => ?_)
    show zS _ 66 _ [va_rf r13] _
    refine zs_astore hE (i := 4) (by decide) (zcat_rf r11) (lv' := [(3, va_rf r11), (1, .int x1), (2, va_rf x2)]) rfl dX1_find_66 ?_
    refine zs_sub [2, 3, 0] rfl ?_
    exact sm_X1_find_L68 hE x1 x2 r13 self40 hs40 ()
theorem sm_X1_find_L40 {x : ZX (Option Nat)} {K : ZK} (hE : zE x K cX1_find RX1 "find" 6 5 189 encR (Option.some (Jvm.ClassFile.FieldType.object "TokenRing$Frame")) []) (x1 : Int32) (x2 : Option Nat) (v : Unit) : zS x 40 [(1, .int x1), (2, va_rf x2)] [] (s_X1_find_L40 K x1 x2 v) := by
  unfold s_X1_find_L40
  exact zs_loop (lvf := fun v => [(1, .int x1), (2, va_rf x2)]) (fun self40 hs40 v => sm_X1_find_B40 hE x1 x2 self40 hs40) v
theorem sm_X1_find {x : ZX (Option Nat)} {K : ZK} (hE : zE x K cX1_find RX1 "find" 6 5 189 encR (Option.some (Jvm.ClassFile.FieldType.object "TokenRing$Frame")) []) (this : Nat) (a1 : Int32) : zS x 0 [(0, va_rf (some this)), (1, .int a1)] [] (s_X1_find K this a1) := by
  unfold s_X1_find
  refine zs_aload_n hE 0 rfl rfl dX1_find_0 ?_
  refine zs_getR hE (ci := 24) (k := 0) rfl (by decide) in_X1 (Or.inl q391) (Or.inl rfl) dX1_find_1 (fun v1 => ?_)
  refine zs_iload_n hE 1 rfl rfl dX1_find_4 ?_
  refine zs_callV hE (As := [.int a1]) (encA := encI) (ci := 34) rfl (fun y0 => met_X2_whereIs K y0 a1) q2196 q96 q2193 q2194 (zq q2195) hd_X2_whereIs (by decide) (by decide) rfl (by simp [zcat_rf, zcat_i, zcat_j, zcat_f, zcat_d]) (fun z hz => by cases hz) dX1_find_5 (fun r2 => ?_)
  show zS _ 8 _ [.int r2] _
  refine zs_bipush hE (v := (100 : Int32)) (by decide) dX1_find_8 ?_
  refine zs_icmp_ne hE 24 (by decide) dX1_find_10 ?_ ?_
  · refine zs_aload_n hE 0 rfl rfl dX1_find_13 ?_
    refine zs_getR hE (ci := 24) (k := 0) rfl (by decide) in_X1 (Or.inl q391) (Or.inl rfl) dX1_find_14 (fun v3 => ?_)
    refine zs_getR hE (ci := 34) (k := 5) rfl (by decide) in_X2 (Or.inr ⟨_, zn q232 rfl⟩) (Or.inl rfl) dX1_find_17 (fun v4 => ?_)
    refine zs_getR hE (ci := 38) (k := 0) rfl (by decide) in_X6 (Or.inr ⟨_, zn q1739 rfl⟩) (Or.inl rfl) dX1_find_20 (fun v5 => ?_)
    exact zs_aret hE (Or.inl ⟨_, rfl⟩) dX1_find_23
  · refine zs_aload_n hE 0 rfl rfl dX1_find_24 ?_
    refine zs_getR hE (ci := 24) (k := 0) rfl (by decide) in_X1 (Or.inl q391) (Or.inl rfl) dX1_find_25 (fun v6 => ?_)
    refine zs_getR hE (ci := 34) (k := 0) rfl (by decide) in_X2 (Or.inr ⟨_, zn q218 rfl⟩) (Or.inl rfl) dX1_find_28 (fun v7 => ?_)
    refine zs_callV hE (As := []) (encA := encR) (ci := 0) rfl (fun y0 => met_J1_values K y0) q427 q98 q1385 q425 (zq q426) hd_J1_values (by decide) (by decide) rfl (by simp [zcat_rf, zcat_i, zcat_j, zcat_f, zcat_d]) (fun z hz => by cases hz) dX1_find_31 (fun r8 => ?_)
    show zS _ 34 _ [va_rf r8] _
    refine zs_callF hE (xx := ⟨"java/util/Collection", "iterator", "()Ljava/util/Iterator;"⟩) (As := []) (encA := encR) (ci := 3) rfl (fun y0 => met_J21_iterator K y0) q831 q122 q1387 (List.mem_of_getElem? (i := 0) rfl) q829 q827 hdx_h1 (by decide) (by decide) rfl (by simp [zcat_rf, zcat_i, zcat_j, zcat_f, zcat_d]) (fun z hz => by cases hz) dX1_find_34 (fun r9 => ?_)
    show zS _ 39 _ [va_rf r9] _
    refine zs_astore_n hE (i := 2) (q := 2) rfl (by decide) (rfl) (lv' := [(0, va_rf (some this)), (1, .int a1)]) rfl dX1_find_39 ?_
    refine zs_sub [2, 0] rfl ?_
    exact sm_X1_find_L40 hE a1 r9 ()
theorem hd_X1_find : (yX1_find).cls ≠ "java/lang/invoke/MethodHandle" ∧ (yX1_find).cls ≠ "java/lang/invoke/VarHandle" ∧ (parseMethodDescriptor (yX1_find).desc).map (fun d => d.parameters.length) = some 1 := by decide +kernel
theorem met_X1_find (K : ZK) (this : Nat) (a1 : Int32) : zMeth K yX1_find (zws yX1_find cX1_find 6 (Option.some (Jvm.ClassFile.FieldType.object "TokenRing$Frame"))) 5 189 [.ref this, .int a1] encR (s_X1_find K this a1) :=
  fun l G hl hK => zmet_of hl hK (by decide +kernel) rfl rfl (by simp [zsl_nil, zsl_rf, zsl_r, zsl_i, zsl_j, zsl_f, zsl_d]) (fun x hE => by simp only [zla_nil, zla_rf, zla_r, zla_i, zla_j, zla_f, zla_d, Nat.reduceAdd]; exact sm_X1_find hE this a1)
theorem sm_X1_rankOf_J15 {x : ZX Int32} {K : ZK} (hE : zE x K cX1_rankOf RX1 "rankOf" 3 7 214 encI (Option.some Jvm.ClassFile.FieldType.int) []) (x2 : Option Nat) (t0 : Int32) : zS x 15 [(2, va_rf x2)] [.int t0] (s_X1_rankOf_J15 K x2 t0) := by
  unfold s_X1_rankOf_J15
  refine zs_callS hE (As := [.int t0]) (encA := encV) (met_X1_checkElement K t0) q2156 q95 q2154 q2155 hd_X1_checkElement (by decide) (by decide) rfl (by simp [zcat_rf, zcat_i, zcat_j, zcat_f, zcat_d]) (fun z hz => by cases hz) dX1_rankOf_15 (fun _ => ?_)
  show zS _ 18 _ [] _
  refine zs_aload_n hE 0 rfl rfl dX1_rankOf_18 ?_
  refine zs_ifnonnull hE 26 (by decide) dX1_rankOf_19 ?_ ?_
  · refine zs_iconst hE (v := (0 : Int32)) (by decide) dX1_rankOf_22 ?_
    refine zs_goto hE 30 (by decide) dX1_rankOf_23 ?_
    exact zs_iret hE dX1_rankOf_30
  · refine zs_aload_n hE 0 rfl rfl dX1_rankOf_26 ?_
    refine zs_getI hE (ci := 39) (k := 3) rfl (by decide) in_X7 (Or.inr ⟨_, zn q1941 rfl⟩) (Or.inl rfl) dX1_rankOf_27 (fun v2 => ?_)
    exact zs_iret hE dX1_rankOf_30
theorem sm_X1_rankOf {x : ZX Int32} {K : ZK} (hE : zE x K cX1_rankOf RX1 "rankOf" 3 7 214 encI (Option.some Jvm.ClassFile.FieldType.int) []) (this : Nat) (a1 : Int32) : zS x 0 [(0, va_rf (some this)), (1, .int a1)] [] (s_X1_rankOf K this a1) := by
  unfold s_X1_rankOf
  refine zs_aload_n hE 0 rfl rfl dX1_rankOf_0 ?_
  refine zs_iload_n hE 1 rfl rfl dX1_rankOf_1 ?_
  refine zs_callV hE (As := [.int a1]) (encA := encR) (ci := 24) rfl (fun y0 => met_X1_find K y0 a1) q2192 q95 q2189 q2191 (zq qs29) hd_X1_find (by decide) (by decide) rfl (by simp [zcat_rf, zcat_i, zcat_j, zcat_f, zcat_d]) (fun z hz => by cases hz) dX1_rankOf_2 (fun r1 => ?_)
  show zS _ 5 _ [va_rf r1] _
  refine zs_astore_n hE (i := 2) (q := 2) rfl (by decide) (rfl) (lv' := [(0, va_rf (some this)), (1, .int a1)]) rfl dX1_rankOf_5 ?_
  refine zs_aload_n hE 0 rfl rfl dX1_rankOf_6 ?_
  refine zs_ifnull hE 14 (by decide) dX1_rankOf_7 ?_ ?_
  · refine zs_iconst hE (v := (0 : Int32)) (by decide) dX1_rankOf_14 ?_
    refine zs_sub [0] rfl ?_
    exact sm_X1_rankOf_J15 hE r1 (0 : Int32)
  · refine zs_iconst hE (v := (1 : Int32)) (by decide) dX1_rankOf_10 ?_
    refine zs_goto hE 15 (by decide) dX1_rankOf_11 ?_
    refine zs_sub [0] rfl ?_
    exact sm_X1_rankOf_J15 hE r1 (1 : Int32)
theorem hd_X1_rankOf : (yX1_rankOf).cls ≠ "java/lang/invoke/MethodHandle" ∧ (yX1_rankOf).cls ≠ "java/lang/invoke/VarHandle" ∧ (parseMethodDescriptor (yX1_rankOf).desc).map (fun d => d.parameters.length) = some 1 := by decide +kernel
theorem met_X1_rankOf (K : ZK) (this : Nat) (a1 : Int32) : zMeth K yX1_rankOf (zws yX1_rankOf cX1_rankOf 3 (Option.some Jvm.ClassFile.FieldType.int)) 7 214 [.ref this, .int a1] encI (s_X1_rankOf K this a1) :=
  fun l G hl hK => zmet_of hl hK (by decide +kernel) rfl rfl (by simp [zsl_nil, zsl_rf, zsl_r, zsl_i, zsl_j, zsl_f, zsl_d]) (fun x hE => by simp only [zla_nil, zla_rf, zla_r, zla_i, zla_j, zla_f, zla_d, Nat.reduceAdd]; exact sm_X1_rankOf hE this a1)
theorem sm_X0_rankOf {x : ZX Int32} {K : ZK} (hE : zE x K cX0_rankOf RX0 "rankOf" 4 8 236 encI (Option.some Jvm.ClassFile.FieldType.int) (tableOf [((0 : Nat), (9 : Nat), (12 : Nat), (46 : Nat))])) (a1 : Option Nat) (a2 : Int32) (a3 : Option Nat) : zS x 0 [(0, va_rf a1), (1, .int a2), (2, va_rf a3)] [] (s_X0_rankOf K a1 a2 a3) := by
  unfold s_X0_rankOf
  refine zs_aload_n hE 2 rfl rfl dX0_rankOf_0 ?_
  refine zs_iconst hE (v := (0 : Int32)) (by decide) dX0_rankOf_1 ?_
  refine zs_aload_n hE 0 rfl rfl dX0_rankOf_2 ?_
  refine zs_iload_n hE 1 rfl rfl dX0_rankOf_3 ?_
  refine zs_callVT hE (As := [.int a2]) (encA := encI) (ci := 24) rfl (fun y0 => met_X1_rankOf K y0 a2) q2188 q95 q2185 q2186 (zq q2187) hd_X1_rankOf (by decide) (by decide) rfl (by simp [zcat_rf, zcat_i, zcat_j, zcat_f, zcat_d]) (zhl_cons (zhnd (tableOf []) (tableOf []) ⟨0, 9, 12, 46⟩ rfl (fun w hw => by cases hw) (by decide) (by decide) q2149 (zn q940 rfl) (fun q1 => ?_)) zhl_nil) dX0_rankOf_4 (fun r2 => ?_)
  · have hE := zE_q q1 3 hE
    have hq := zqin_q (x := x) q1 3
    refine zs_astore_n hE (i := 3) (q := 3) rfl (by decide) (zcat_rf a3) (lv' := [(0, va_rf a1), (1, .int a2), (2, va_rf a3)]) rfl dX0_rankOf_12 ?_
    refine zs_iconst hE (v := (1 : Int32)) (by decide) dX0_rankOf_13 ?_
    exact zs_iret hE dX0_rankOf_14
  · show zS _ 7 _ [.int r2, .int (0 : Int32), va_rf a3] _
    refine zs_i2l hE dX0_rankOf_7 ?_
    refine zs_astJ hE dX0_rankOf_8 ?_
    refine zs_goto hE 15 (by decide) dX0_rankOf_9 ?_
    refine zs_iconst hE (v := (0 : Int32)) (by decide) dX0_rankOf_15 ?_
    exact zs_iret hE dX0_rankOf_16
theorem hd_X0_rankOf : (yX0_rankOf).cls ≠ "java/lang/invoke/MethodHandle" ∧ (yX0_rankOf).cls ≠ "java/lang/invoke/VarHandle" ∧ (parseMethodDescriptor (yX0_rankOf).desc).map (fun d => d.parameters.length) = some 3 := by decide +kernel
theorem met_X0_rankOf (K : ZK) (a1 : Option Nat) (a2 : Int32) (a3 : Option Nat) : zMeth K yX0_rankOf (zwsW yX0_rankOf cX0_rankOf 4 (Option.some Jvm.ClassFile.FieldType.int) [((0 : Nat), (9 : Nat), (12 : Nat), (46 : Nat))]) 8 236 [va_rf a1, .int a2, va_rf a3] encI (s_X0_rankOf K a1 a2 a3) :=
  fun l G hl hK => zmet_ofH hl hK (by decide +kernel) rfl rfl (by simp [zsl_nil, zsl_rf, zsl_r, zsl_i, zsl_j, zsl_f, zsl_d]) (fun x hE => by simp only [zla_nil, zla_rf, zla_r, zla_i, zla_j, zla_f, zla_d, Nat.reduceAdd]; exact sm_X0_rankOf hE a1 a2 a3)
theorem sm_X1_whereIs_J19 {x : ZX Int32} {K : ZK} (hE : zE x K cX1_whereIs RX1 "whereIs" 3 7 189 encI (Option.some Jvm.ClassFile.FieldType.int) []) (x2 : Int32) (t0 : Int32) : zS x 19 [(2, .int x2)] [.int t0] (s_X1_whereIs_J19 K x2 t0) := by
  unfold s_X1_whereIs_J19
  refine zs_callS hE (As := [.int t0]) (encA := encV) (met_X1_checkElement K t0) q2156 q95 q2154 q2155 hd_X1_checkElement (by decide) (by decide) rfl (by simp [zcat_rf, zcat_i, zcat_j, zcat_f, zcat_d]) (fun z hz => by cases hz) dX1_whereIs_19 (fun _ => ?_)
  show zS _ 22 _ [] _
  refine zs_iload_n hE 0 rfl rfl dX1_whereIs_22 ?_
  exact zs_iret hE dX1_whereIs_23
theorem sm_X1_whereIs {x : ZX Int32} {K : ZK} (hE : zE x K cX1_whereIs RX1 "whereIs" 3 7 189 encI (Option.some Jvm.ClassFile.FieldType.int) []) (this : Nat) (a1 : Int32) : zS x 0 [(0, va_rf (some this)), (1, .int a1)] [] (s_X1_whereIs K this a1) := by
  unfold s_X1_whereIs
  refine zs_aload_n hE 0 rfl rfl dX1_whereIs_0 ?_
  refine zs_getR hE (ci := 24) (k := 0) rfl (by decide) in_X1 (Or.inl q391) (Or.inl rfl) dX1_whereIs_1 (fun v1 => ?_)
  refine zs_iload_n hE 1 rfl rfl dX1_whereIs_4 ?_
  refine zs_callV hE (As := [.int a1]) (encA := encI) (ci := 34) rfl (fun y0 => met_X2_whereIs K y0 a1) q2196 q96 q2193 q2194 (zq q2195) hd_X2_whereIs (by decide) (by decide) rfl (by simp [zcat_rf, zcat_i, zcat_j, zcat_f, zcat_d]) (fun z hz => by cases hz) dX1_whereIs_5 (fun r2 => ?_)
  show zS _ 8 _ [.int r2] _
  refine zs_istore_n hE (i := 2) (q := 2) rfl (by decide) (rfl) (lv' := [(0, va_rf (some this)), (1, .int a1)]) rfl dX1_whereIs_8 ?_
  refine zs_iload_n hE 0 rfl rfl dX1_whereIs_9 ?_
  refine zs_iconst hE (v := (-1 : Int32)) (by decide) dX1_whereIs_10 ?_
  refine zs_icmp_eq hE 18 (by decide) dX1_whereIs_11 ?_ ?_
  · refine zs_iconst hE (v := (0 : Int32)) (by decide) dX1_whereIs_18 ?_
    refine zs_sub [0] rfl ?_
    exact sm_X1_whereIs_J19 hE r2 (0 : Int32)
  · refine zs_iconst hE (v := (1 : Int32)) (by decide) dX1_whereIs_14 ?_
    refine zs_goto hE 19 (by decide) dX1_whereIs_15 ?_
    refine zs_sub [0] rfl ?_
    exact sm_X1_whereIs_J19 hE r2 (1 : Int32)
theorem hd_X1_whereIs : (yX1_whereIs).cls ≠ "java/lang/invoke/MethodHandle" ∧ (yX1_whereIs).cls ≠ "java/lang/invoke/VarHandle" ∧ (parseMethodDescriptor (yX1_whereIs).desc).map (fun d => d.parameters.length) = some 1 := by decide +kernel
theorem met_X1_whereIs (K : ZK) (this : Nat) (a1 : Int32) : zMeth K yX1_whereIs (zws yX1_whereIs cX1_whereIs 3 (Option.some Jvm.ClassFile.FieldType.int)) 7 189 [.ref this, .int a1] encI (s_X1_whereIs K this a1) :=
  fun l G hl hK => zmet_of hl hK (by decide +kernel) rfl rfl (by simp [zsl_nil, zsl_rf, zsl_r, zsl_i, zsl_j, zsl_f, zsl_d]) (fun x hE => by simp only [zla_nil, zla_rf, zla_r, zla_i, zla_j, zla_f, zla_d, Nat.reduceAdd]; exact sm_X1_whereIs hE this a1)
theorem sm_X0_whereIs {x : ZX Int32} {K : ZK} (hE : zE x K cX0_whereIs RX0 "whereIs" 4 8 211 encI (Option.some Jvm.ClassFile.FieldType.int) (tableOf [((0 : Nat), (9 : Nat), (12 : Nat), (46 : Nat))])) (a1 : Option Nat) (a2 : Int32) (a3 : Option Nat) : zS x 0 [(0, va_rf a1), (1, .int a2), (2, va_rf a3)] [] (s_X0_whereIs K a1 a2 a3) := by
  unfold s_X0_whereIs
  refine zs_aload_n hE 2 rfl rfl dX0_whereIs_0 ?_
  refine zs_iconst hE (v := (0 : Int32)) (by decide) dX0_whereIs_1 ?_
  refine zs_aload_n hE 0 rfl rfl dX0_whereIs_2 ?_
  refine zs_iload_n hE 1 rfl rfl dX0_whereIs_3 ?_
  refine zs_callVT hE (As := [.int a2]) (encA := encI) (ci := 24) rfl (fun y0 => met_X1_whereIs K y0 a2) q2206 q95 q2203 q2204 (zq q2205) hd_X1_whereIs (by decide) (by decide) rfl (by simp [zcat_rf, zcat_i, zcat_j, zcat_f, zcat_d]) (zhl_cons (zhnd (tableOf []) (tableOf []) ⟨0, 9, 12, 46⟩ rfl (fun w hw => by cases hw) (by decide) (by decide) q2149 (zn q940 rfl) (fun q1 => ?_)) zhl_nil) dX0_whereIs_4 (fun r2 => ?_)
  · have hE := zE_q q1 3 hE
    have hq := zqin_q (x := x) q1 3
    refine zs_astore_n hE (i := 3) (q := 3) rfl (by decide) (zcat_rf a3) (lv' := [(0, va_rf a1), (1, .int a2), (2, va_rf a3)]) rfl dX0_whereIs_12 ?_
    refine zs_iconst hE (v := (1 : Int32)) (by decide) dX0_whereIs_13 ?_
    exact zs_iret hE dX0_whereIs_14
  · show zS _ 7 _ [.int r2, .int (0 : Int32), va_rf a3] _
    refine zs_i2l hE dX0_whereIs_7 ?_
    refine zs_astJ hE dX0_whereIs_8 ?_
    refine zs_goto hE 15 (by decide) dX0_whereIs_9 ?_
    refine zs_iconst hE (v := (0 : Int32)) (by decide) dX0_whereIs_15 ?_
    exact zs_iret hE dX0_whereIs_16
theorem hd_X0_whereIs : (yX0_whereIs).cls ≠ "java/lang/invoke/MethodHandle" ∧ (yX0_whereIs).cls ≠ "java/lang/invoke/VarHandle" ∧ (parseMethodDescriptor (yX0_whereIs).desc).map (fun d => d.parameters.length) = some 3 := by decide +kernel
theorem met_X0_whereIs (K : ZK) (a1 : Option Nat) (a2 : Int32) (a3 : Option Nat) : zMeth K yX0_whereIs (zwsW yX0_whereIs cX0_whereIs 4 (Option.some Jvm.ClassFile.FieldType.int) [((0 : Nat), (9 : Nat), (12 : Nat), (46 : Nat))]) 8 211 [va_rf a1, .int a2, va_rf a3] encI (s_X0_whereIs K a1 a2 a3) :=
  fun l G hl hK => zmet_ofH hl hK (by decide +kernel) rfl rfl (by simp [zsl_nil, zsl_rf, zsl_r, zsl_i, zsl_j, zsl_f, zsl_d]) (fun x hE => by simp only [zla_nil, zla_rf, zla_r, zla_i, zla_j, zla_f, zla_d, Nat.reduceAdd]; exact sm_X0_whereIs hE a1 a2 a3)
theorem sm_X5_lengths_B10 {x : ZX Int32} {K : ZK} (hE : zE x K cX5_lengths RX5 "lengths" 4 3 142 encI (Option.some Jvm.ClassFile.FieldType.int) []) (x2 : Option Nat) (self10 : Int32 → ZP Int32) (hs10 : ∀ v : Int32, zS x 10 [(1, .int v), (2, va_rf x2)] [] (self10 v)) (x1 : Int32) : zS x 10 [(1, .int x1), (2, va_rf x2)] [] (s_X5_lengths_B10 K x2 self10 x1) := by
  unfold s_X5_lengths_B10
  refine zs_aload_n hE 1 rfl rfl dX5_lengths_10 ?_
  refine zs_callF hE (xx := ⟨"java/util/Iterator", "hasNext", "()Z"⟩) (As := []) (encA := encI) (ci := 5) rfl (fun y0 => met_J23_hasNext K y0) q869 q124 q1573 (List.mem_of_getElem? (i := 3) rfl) q867 q865 hdx_h2 (by decide) (by decide) rfl (by simp [zcat_rf, zcat_i, zcat_j, zcat_f, zcat_d]) (fun z hz => by cases hz) dX5_lengths_11 (fun r3 => ?_)
  show zS _ 16 _ [.int r3] _
  refine zs_if_eq hE 39 (by decide) dX5_lengths_16 ?_ ?_
  · refine zs_iload_n hE 0 rfl rfl dX5_lengths_39 ?_
    exact zs_iret hE dX5_lengths_40
  · refine zs_aload_n hE 1 rfl rfl dX5_lengths_19 ?_
    refine zs_callF hE (xx := ⟨"java/util/Iterator", "next", "()Ljava/lang/Object;"⟩) (As := []) (encA := encR) (ci := 5) rfl (fun y0 => met_J23_next K y0) q1045 q124 q1575 (List.mem_of_getElem? (i := 4) rfl) q1043 q1041 hdx_h4 (by decide) (by decide) rfl (by simp [zcat_rf, zcat_i, zcat_j, zcat_f, zcat_d]) (fun z hz => by cases hz) dX5_lengths_20 (fun r4 => ?_)
    show zS _ 25 _ [va_rf r4] _
    refine zs_cast hE q1576 (zc1 rfl (Or.inl rfl)) dX5_lengths_25 ?_
    refine zs_astore_n hE (i := 3) (q := 3) rfl (by decide) (zcat_rf x2) (lv' := [(1, .int x1), (2, va_rf x2)]) rfl dX5_lengths_28 ?_
    refine zs_iload_n hE 1 rfl rfl dX5_lengths_29 ?_
    refine zs_aload_n hE 0 rfl rfl dX5_lengths_30 ?_
    refine zs_getI hE (ci := 39) (k := 4) rfl (by decide) in_X7 (Or.inr ⟨_, zn q1943 rfl⟩) (Or.inl rfl) dX5_lengths_31 (fun v5 => ?_)
    refine zs_iadd hE dX5_lengths_34 ?_
    refine zs_istore_n hE (i := 1) (q := 1) rfl (by decide) (trivial) (lv' := [(3, va_rf r4), (2, va_rf x2)]) rfl dX5_lengths_35 ?_
    refine zs_goto hE 10 (by decide) dX5_lengths_36 ?_
    refine zs_sub [0, 2] rfl ?_
    exact hs10 (x1 + v5)
theorem sm_X5_lengths_L10 {x : ZX Int32} {K : ZK} (hE : zE x K cX5_lengths RX5 "lengths" 4 3 142 encI (Option.some Jvm.ClassFile.FieldType.int) []) (x2 : Option Nat) (v : Int32) : zS x 10 [(1, .int v), (2, va_rf x2)] [] (s_X5_lengths_L10 K x2 v) := by
  unfold s_X5_lengths_L10
  exact zs_loop (lvf := fun v => [(1, .int v), (2, va_rf x2)]) (fun self10 hs10 v => sm_X5_lengths_B10 hE x2 self10 hs10 v) v
theorem sm_X5_lengths {x : ZX Int32} {K : ZK} (hE : zE x K cX5_lengths RX5 "lengths" 4 3 142 encI (Option.some Jvm.ClassFile.FieldType.int) []) (this : Nat) : zS x 0 [(0, va_rf (some this))] [] (s_X5_lengths K this) := by
  unfold s_X5_lengths
  refine zs_iconst hE (v := (0 : Int32)) (by decide) dX5_lengths_0 ?_
  refine zs_istore_n hE (i := 1) (q := 1) rfl (by decide) (zcat_rf (some this)) (lv' := [(0, va_rf (some this))]) rfl dX5_lengths_1 ?_
  refine zs_aload_n hE 1 rfl rfl dX5_lengths_2 ?_
  refine zs_getR hE (ci := 37) (k := 1) rfl (by decide) in_X5 (Or.inl q1551) (Or.inl rfl) dX5_lengths_3 (fun v1 => ?_)
  refine zs_callV hE (As := []) (encA := encR) (ci := 11) rfl (fun y0 => met_J31_iterator K y0) q479 q133 q1571 q477 (zq q3299) hd_J31_iterator (by decide) (by decide) rfl (by simp [zcat_rf, zcat_i, zcat_j, zcat_f, zcat_d]) (fun z hz => by cases hz) dX5_lengths_6 (fun r2 => ?_)
  show zS _ 9 _ [va_rf r2] _
  refine zs_astore_n hE (i := 2) (q := 2) rfl (by decide) (rfl) (lv' := [(1, .int (0 : Int32)), (0, va_rf (some this))]) rfl dX5_lengths_9 ?_
  refine zs_sub [1, 0] rfl ?_
  exact sm_X5_lengths_L10 hE r2 (0 : Int32)
theorem hd_X5_lengths : (yX5_lengths).cls ≠ "java/lang/invoke/MethodHandle" ∧ (yX5_lengths).cls ≠ "java/lang/invoke/VarHandle" ∧ (parseMethodDescriptor (yX5_lengths).desc).map (fun d => d.parameters.length) = some 0 := by decide +kernel
theorem met_X5_lengths (K : ZK) (this : Nat) : zMeth K yX5_lengths (zws yX5_lengths cX5_lengths 4 (Option.some Jvm.ClassFile.FieldType.int)) 3 142 [.ref this] encI (s_X5_lengths K this) :=
  fun l G hl hK => zmet_of hl hK (by decide +kernel) rfl rfl (by simp [zsl_nil, zsl_rf, zsl_r, zsl_i, zsl_j, zsl_f, zsl_d]) (fun x hE => by simp only [zla_nil, zla_rf, zla_r, zla_i, zla_j, zla_f, zla_d, Nat.reduceAdd]; exact sm_X5_lengths hE this)
theorem sm_X1_queueOf {x : ZX Int32} {K : ZK} (hE : zE x K cX1_queueOf RX1 "queueOf" 4 8 250 encI (Option.some Jvm.ClassFile.FieldType.int) []) (this : Nat) (a1 : Int32) (a2 : Int32) : zS x 0 [(0, va_rf (some this)), (1, .int a1), (2, .int a2)] [] (s_X1_queueOf K this a1 a2) := by
  unfold s_X1_queueOf
  refine zs_aload_n hE 0 rfl rfl dX1_queueOf_0 ?_
  refine zs_iload_n hE 1 rfl rfl dX1_queueOf_1 ?_
  refine zs_callV hE (As := [.int a1]) (encA := encR) (ci := 24) rfl (fun y0 => met_X1_station0 K y0 a1) q2172 q95 q2169 q2171 (zq qs28) hd_X1_station0 (by decide) (by decide) rfl (by simp [zcat_rf, zcat_i, zcat_j, zcat_f, zcat_d]) (fun z hz => by cases hz) dX1_queueOf_2 (fun r1 => ?_)
  show zS _ 5 _ [va_rf r1] _
  refine zs_astore_n hE (i := 3) (q := 3) rfl (by decide) (rfl) (lv' := [(0, va_rf (some this)), (1, .int a1), (2, .int a2)]) rfl dX1_queueOf_5 ?_
  refine zs_iload_n hE 3 rfl rfl dX1_queueOf_6 ?_
  refine zs_iconst hE (v := (0 : Int32)) (by decide) dX1_queueOf_7 ?_
  refine zs_iconst hE (v := (4 : Int32)) (by decide) dX1_queueOf_8 ?_
  refine zs_callS hE (As := [.int a2, .int (0 : Int32), .int (4 : Int32)]) (encA := encI) (met_X1_isBetween K a2 (0 : Int32) (4 : Int32)) q1776 q95 q1774 q1775 hd_X1_isBetween (by decide) (by decide) rfl (by simp [zcat_rf, zcat_i, zcat_j, zcat_f, zcat_d]) (fun z hz => by cases hz) dX1_queueOf_9 (fun r2 => ?_)
  show zS _ 12 _ [.int r2] _
  refine zs_callS hE (As := [.int r2]) (encA := encV) (met_X1_check K r2) q2140 q95 q2138 q2139 hd_X1_check (by decide) (by decide) rfl (by simp [zcat_rf, zcat_i, zcat_j, zcat_f, zcat_d]) (fun z hz => by cases hz) dX1_queueOf_12 (fun _ => ?_)
  show zS _ 15 _ [] _
  refine zs_iload_n hE 3 rfl rfl dX1_queueOf_15 ?_
  refine zs_tsw hE (offl := [32, 40, 45, 50]) rfl (by decide) dX1_queueOf_16 (tgt := 71) (by decide) ⟨⟨by decide, 48, by decide, ?_⟩, ⟨by decide, 56, by decide, ?_⟩, ⟨by decide, 61, by decide, ?_⟩, ⟨by decide, 66, by decide, ?_⟩, trivial⟩ ?_
  · refine zs_aload_n hE 0 rfl rfl dX1_queueOf_48 ?_
    refine zs_getR hE (ci := 37) (k := 1) rfl (by decide) in_X5 (Or.inr ⟨_, zn q1555 rfl⟩) (Or.inl rfl) dX1_queueOf_49 (fun v3 => ?_)
    refine zs_callV hE (As := []) (encA := encI) (ci := 11) rfl (fun y0 => met_J31_size K y0) q1102 q133 q1924 q1100 (zq q1101) hd_J31_size (by decide) (by decide) rfl (by simp [zcat_rf, zcat_i, zcat_j, zcat_f, zcat_d]) (fun z hz => by cases hz) dX1_queueOf_52 (fun r4 => ?_)
    show zS _ 55 _ [.int r4] _
    exact zs_iret hE dX1_queueOf_55
  · refine zs_aload_n hE 0 rfl rfl dX1_queueOf_56 ?_
    refine zs_callV hE (As := []) (encA := encI) (ci := 37) rfl (fun y0 => met_X5_rank K y0) q2106 q131 q2214 q2104 (zq q2105) hd_X5_rank (by decide) (by decide) rfl (by simp [zcat_rf, zcat_i, zcat_j, zcat_f, zcat_d]) (fun z hz => by cases hz) dX1_queueOf_57 (fun r5 => ?_)
    show zS _ 60 _ [.int r5] _
    exact zs_iret hE dX1_queueOf_60
  · refine zs_aload_n hE 0 rfl rfl dX1_queueOf_61 ?_
    refine zs_callV hE (As := []) (encA := encI) (ci := 37) rfl (fun y0 => met_X5_lengths K y0) q2218 q131 q2215 q2216 (zq q2217) hd_X5_lengths (by decide) (by decide) rfl (by simp [zcat_rf, zcat_i, zcat_j, zcat_f, zcat_d]) (fun z hz => by cases hz) dX1_queueOf_62 (fun r6 => ?_)
    show zS _ 65 _ [.int r6] _
    exact zs_iret hE dX1_queueOf_65
  · refine zs_aload_n hE 0 rfl rfl dX1_queueOf_66 ?_
    refine zs_getI hE (ci := 37) (k := 2) rfl (by decide) in_X5 (Or.inr ⟨_, zn q1558 rfl⟩) (Or.inl rfl) dX1_queueOf_67 (fun v7 => ?_)
    exact zs_iret hE dX1_queueOf_70
  · refine zs_aload_n hE 0 rfl rfl dX1_queueOf_71 ?_
    refine zs_getI hE (ci := 37) (k := 3) rfl (by decide) in_X5 (Or.inr ⟨_, zn q1561 rfl⟩) (Or.inl rfl) dX1_queueOf_72 (fun v8 => ?_)
    exact zs_iret hE dX1_queueOf_75
theorem hd_X1_queueOf : (yX1_queueOf).cls ≠ "java/lang/invoke/MethodHandle" ∧ (yX1_queueOf).cls ≠ "java/lang/invoke/VarHandle" ∧ (parseMethodDescriptor (yX1_queueOf).desc).map (fun d => d.parameters.length) = some 2 := by decide +kernel
theorem met_X1_queueOf (K : ZK) (this : Nat) (a1 : Int32) (a2 : Int32) : zMeth K yX1_queueOf (zws yX1_queueOf cX1_queueOf 4 (Option.some Jvm.ClassFile.FieldType.int)) 8 250 [.ref this, .int a1, .int a2] encI (s_X1_queueOf K this a1 a2) :=
  fun l G hl hK => zmet_of hl hK (by decide +kernel) rfl rfl (by simp [zsl_nil, zsl_rf, zsl_r, zsl_i, zsl_j, zsl_f, zsl_d]) (fun x hE => by simp only [zla_nil, zla_rf, zla_r, zla_i, zla_j, zla_f, zla_d, Nat.reduceAdd]; exact sm_X1_queueOf hE this a1 a2)
theorem sm_X0_queueOf {x : ZX Int32} {K : ZK} (hE : zE x K cX0_queueOf RX0 "queueOf" 5 9 273 encI (Option.some Jvm.ClassFile.FieldType.int) (tableOf [((0 : Nat), (10 : Nat), (13 : Nat), (52 : Nat)), ((0 : Nat), (10 : Nat), (17 : Nat), (41 : Nat))])) (a1 : Option Nat) (a2 : Int32) (a3 : Int32) (a4 : Option Nat) : zS x 0 [(0, va_rf a1), (1, .int a2), (2, .int a3), (3, va_rf a4)] [] (s_X0_queueOf K a1 a2 a3 a4) := by
  unfold s_X0_queueOf
  refine zs_aload_n hE 3 rfl rfl dX0_queueOf_0 ?_
  refine zs_iconst hE (v := (0 : Int32)) (by decide) dX0_queueOf_1 ?_
  refine zs_aload_n hE 0 rfl rfl dX0_queueOf_2 ?_
  refine zs_iload_n hE 1 rfl rfl dX0_queueOf_3 ?_
  refine zs_iload_n hE 2 rfl rfl dX0_queueOf_4 ?_
  refine zs_callVT hE (As := [.int a2, .int a3]) (encA := encI) (ci := 24) rfl (fun y0 => met_X1_queueOf K y0 a2 a3) q2213 q95 q2210 q2211 (zq q2212) hd_X1_queueOf (by decide) (by decide) rfl (by simp [zcat_rf, zcat_i, zcat_j, zcat_f, zcat_d]) (zhl_cons (zhnd (tableOf [(0, 10, 13, 52)]) (tableOf []) ⟨0, 10, 17, 41⟩ rfl (fun w hw => by obtain rfl := List.mem_singleton.mp hw; exact Or.inr ⟨by decide, "java/lang/IndexOutOfBoundsException", q2162, List.mem_of_getElem? (i := 1) rfl⟩) (by decide) (by decide) q2133 (zn q1287 rfl) (fun q1 => ?_)) (zhl_cons (zhnd (tableOf []) (tableOf [(0, 10, 17, 41)]) ⟨0, 10, 13, 52⟩ rfl (fun w hw => by cases hw) (by decide) (by decide) q2162 (zn q1987 rfl) (fun q2 => ?_)) zhl_nil)) dX0_queueOf_5 (fun r3 => ?_)
  · have hE := zE_q q1 1 hE
    have hq := zqin_q (x := x) q1 1
    refine zs_astore hE (i := 4) (by decide) (zcat_rf a4) (lv' := [(0, va_rf a1), (1, .int a2), (2, .int a3), (3, va_rf a4)]) rfl dX0_queueOf_17 ?_
    refine zs_iconst hE (v := (2 : Int32)) (by decide) dX0_queueOf_19 ?_
    exact zs_iret hE dX0_queueOf_20
  · have hE := zE_q q2 2 hE
    have hq := zqin_q (x := x) q2 2
    refine zs_astore hE (i := 4) (by decide) (zcat_rf a4) (lv' := [(0, va_rf a1), (1, .int a2), (2, .int a3), (3, va_rf a4)]) rfl dX0_queueOf_13 ?_
    refine zs_iconst hE (v := (1 : Int32)) (by decide) dX0_queueOf_15 ?_
    exact zs_iret hE dX0_queueOf_16
  · show zS _ 8 _ [.int r3, .int (0 : Int32), va_rf a4] _
    refine zs_i2l hE dX0_queueOf_8 ?_
    refine zs_astJ hE dX0_queueOf_9 ?_
    refine zs_goto hE 21 (by decide) dX0_queueOf_10 ?_
    refine zs_iconst hE (v := (0 : Int32)) (by decide) dX0_queueOf_21 ?_
    exact zs_iret hE dX0_queueOf_22
theorem hd_X0_queueOf : (yX0_queueOf).cls ≠ "java/lang/invoke/MethodHandle" ∧ (yX0_queueOf).cls ≠ "java/lang/invoke/VarHandle" ∧ (parseMethodDescriptor (yX0_queueOf).desc).map (fun d => d.parameters.length) = some 4 := by decide +kernel
theorem met_X0_queueOf (K : ZK) (a1 : Option Nat) (a2 : Int32) (a3 : Int32) (a4 : Option Nat) : zMeth K yX0_queueOf (zwsW yX0_queueOf cX0_queueOf 5 (Option.some Jvm.ClassFile.FieldType.int) [((0 : Nat), (10 : Nat), (13 : Nat), (52 : Nat)), ((0 : Nat), (10 : Nat), (17 : Nat), (41 : Nat))]) 9 273 [va_rf a1, .int a2, .int a3, va_rf a4] encI (s_X0_queueOf K a1 a2 a3 a4) :=
  fun l G hl hK => zmet_ofH hl hK (by decide +kernel) rfl rfl (by simp [zsl_nil, zsl_rf, zsl_r, zsl_i, zsl_j, zsl_f, zsl_d]) (fun x hE => by simp only [zla_nil, zla_rf, zla_r, zla_i, zla_j, zla_f, zla_d, Nat.reduceAdd]; exact sm_X0_queueOf hE a1 a2 a3 a4)
theorem sm_X1_next {x : ZX Int32} {K : ZK} (hE : zE x K cX1_next RX1 "next" 2 8 253 encI (Option.some Jvm.ClassFile.FieldType.int) []) (this : Nat) (a1 : Int32) : zS x 0 [(0, va_rf (some this)), (1, .int a1)] [] (s_X1_next K this a1) := by
  unfold s_X1_next
  refine zs_aload_n hE 0 rfl rfl dX1_next_0 ?_
  refine zs_iload_n hE 1 rfl rfl dX1_next_1 ?_
  refine zs_callV hE (As := [.int a1]) (encA := encI) (ci := 24) rfl (fun y0 => met_X1_isStation K y0 a1) q1818 q95 q1815 q1817 (zq qs12) hd_X1_isStation (by decide) (by decide) rfl (by simp [zcat_rf, zcat_i, zcat_j, zcat_f, zcat_d]) (fun z hz => by cases hz) dX1_next_2 (fun r1 => ?_)
  show zS _ 5 _ [.int r1] _
  refine zs_callS hE (As := [.int r1]) (encA := encV) (met_X1_checkIndex K r1) q2175 q95 q2173 q2174 hd_X1_checkIndex (by decide) (by decide) rfl (by simp [zcat_rf, zcat_i, zcat_j, zcat_f, zcat_d]) (fun z hz => by cases hz) dX1_next_5 (fun _ => ?_)
  show zS _ 8 _ [] _
  refine zs_aload_n hE 0 rfl rfl dX1_next_8 ?_
  refine zs_getR hE (ci := 24) (k := 0) rfl (by decide) in_X1 (Or.inl q391) (Or.inl rfl) dX1_next_9 (fun v2 => ?_)
  refine zs_iload_n hE 1 rfl rfl dX1_next_12 ?_
  refine zs_callV hE (As := [.int a1]) (encA := encI) (ci := 34) rfl (fun y0 => met_X2_next K y0 a1) q901 q96 q2226 q899 (zq q900) hd_X2_next (by decide) (by decide) rfl (by simp [zcat_rf, zcat_i, zcat_j, zcat_f, zcat_d]) (fun z hz => by cases hz) dX1_next_13 (fun r3 => ?_)
  show zS _ 16 _ [.int r3] _
  exact zs_iret hE dX1_next_16
theorem hd_X1_next : (yX1_next).cls ≠ "java/lang/invoke/MethodHandle" ∧ (yX1_next).cls ≠ "java/lang/invoke/VarHandle" ∧ (parseMethodDescriptor (yX1_next).desc).map (fun d => d.parameters.length) = some 1 := by decide +kernel
theorem met_X1_next (K : ZK) (this : Nat) (a1 : Int32) : zMeth K yX1_next (zws yX1_next cX1_next 2 (Option.some Jvm.ClassFile.FieldType.int)) 8 253 [.ref this, .int a1] encI (s_X1_next K this a1) :=
  fun l G hl hK => zmet_of hl hK (by decide +kernel) rfl rfl (by simp [zsl_nil, zsl_rf, zsl_r, zsl_i, zsl_j, zsl_f, zsl_d]) (fun x hE => by simp only [zla_nil, zla_rf, zla_r, zla_i, zla_j, zla_f, zla_d, Nat.reduceAdd]; exact sm_X1_next hE this a1)
theorem sm_X0_next {x : ZX Int32} {K : ZK} (hE : zE x K cX0_next RX0 "next" 4 9 274 encI (Option.some Jvm.ClassFile.FieldType.int) (tableOf [((0 : Nat), (9 : Nat), (12 : Nat), (52 : Nat))])) (a1 : Option Nat) (a2 : Int32) (a3 : Option Nat) : zS x 0 [(0, va_rf a1), (1, .int a2), (2, va_rf a3)] [] (s_X0_next K a1 a2 a3) := by
  unfold s_X0_next
  refine zs_aload_n hE 2 rfl rfl dX0_next_0 ?_
  refine zs_iconst hE (v := (0 : Int32)) (by decide) dX0_next_1 ?_
  refine zs_aload_n hE 0 rfl rfl dX0_next_2 ?_
  refine zs_iload_n hE 1 rfl rfl dX0_next_3 ?_
  refine zs_callVT hE (As := [.int a2]) (encA := encI) (ci := 24) rfl (fun y0 => met_X1_next K y0 a2) q2225 q95 q2222 q2223 (zq q2224) hd_X1_next (by decide) (by decide) rfl (by simp [zcat_rf, zcat_i, zcat_j, zcat_f, zcat_d]) (zhl_cons (zhnd (tableOf []) (tableOf []) ⟨0, 9, 12, 52⟩ rfl (fun w hw => by cases hw) (by decide) (by decide) q2162 (zn q1987 rfl) (fun q1 => ?_)) zhl_nil) dX0_next_4 (fun r2 => ?_)
  · have hE := zE_q q1 2 hE
    have hq := zqin_q (x := x) q1 2
    refine zs_astore_n hE (i := 3) (q := 3) rfl (by decide) (zcat_rf a3) (lv' := [(0, va_rf a1), (1, .int a2), (2, va_rf a3)]) rfl dX0_next_12 ?_
    refine zs_iconst hE (v := (1 : Int32)) (by decide) dX0_next_13 ?_
    exact zs_iret hE dX0_next_14
  · show zS _ 7 _ [.int r2, .int (0 : Int32), va_rf a3] _
    refine zs_i2l hE dX0_next_7 ?_
    refine zs_astJ hE dX0_next_8 ?_
    refine zs_goto hE 15 (by decide) dX0_next_9 ?_
    refine zs_iconst hE (v := (0 : Int32)) (by decide) dX0_next_15 ?_
    exact zs_iret hE dX0_next_16
theorem hd_X0_next : (yX0_next).cls ≠ "java/lang/invoke/MethodHandle" ∧ (yX0_next).cls ≠ "java/lang/invoke/VarHandle" ∧ (parseMethodDescriptor (yX0_next).desc).map (fun d => d.parameters.length) = some 3 := by decide +kernel
theorem met_X0_next (K : ZK) (a1 : Option Nat) (a2 : Int32) (a3 : Option Nat) : zMeth K yX0_next (zwsW yX0_next cX0_next 4 (Option.some Jvm.ClassFile.FieldType.int) [((0 : Nat), (9 : Nat), (12 : Nat), (52 : Nat))]) 9 274 [va_rf a1, .int a2, va_rf a3] encI (s_X0_next K a1 a2 a3) :=
  fun l G hl hK => zmet_ofH hl hK (by decide +kernel) rfl rfl (by simp [zsl_nil, zsl_rf, zsl_r, zsl_i, zsl_j, zsl_f, zsl_d]) (fun x hE => by simp only [zla_nil, zla_rf, zla_r, zla_i, zla_j, zla_f, zla_d, Nat.reduceAdd]; exact sm_X0_next hE a1 a2 a3)
theorem sm_X9_init {x : ZX Unit} {K : ZK} (hE : zE x K cX9_init RX9 "<init>" 3 1 100 encV none []) (this : Nat) (a1 : Option Nat) (a2 : Int32) : zS x 0 [(0, va_rf (some this)), (1, va_rf a1), (2, .int a2)] [] (s_X9_init K this a1 a2) := by
  unfold s_X9_init
  refine zs_aload_n hE 0 rfl rfl dX9_init_0 ?_
  refine zs_aload_n hE 1 rfl rfl dX9_init_1 ?_
  refine zs_putR hE (ci := 41) (k := 1) rfl (by decide) in_X9 (Or.inl q2246) (Or.inl rfl) (Or.inr ⟨rfl, rfl, rfl⟩) (fun _ => q2246) (tyX9_ok 1 (by decide)) (Or.inl ⟨_, rfl⟩) dX9_init_2 ?_
  refine zs_aload_n hE 0 rfl rfl dX9_init_5 ?_
  refine zs_objInit hE q2243 q169 q170 (by decide) (by first | decide | simp [zcat_rf, zcat_i, zcat_j, zcat_f, zcat_d]) dX9_init_6 ?_
  refine zs_aload_n hE 0 rfl rfl dX9_init_9 ?_
  refine zs_iload_n hE 2 rfl rfl dX9_init_10 ?_
  refine zs_putI hE (ci := 41) (k := 0) rfl (by decide) in_X9 (Or.inl q2244) (Or.inl rfl) (Or.inr ⟨rfl, rfl, rfl⟩) (fun _ => q2244) rfl dX9_init_11 ?_
  exact zs_vret hE dX9_init_14
theorem hd_X9_init : (yX9_init).cls ≠ "java/lang/invoke/MethodHandle" ∧ (yX9_init).cls ≠ "java/lang/invoke/VarHandle" ∧ (parseMethodDescriptor (yX9_init).desc).map (fun d => d.parameters.length) = some 2 := by decide +kernel
theorem met_X9_init (K : ZK) (this : Nat) (a1 : Option Nat) (a2 : Int32) : zMeth K yX9_init (zws yX9_init cX9_init 3 none) 1 100 [.ref this, va_rf a1, .int a2] encV (s_X9_init K this a1 a2) :=
  fun l G hl hK => zmet_of hl hK (by decide +kernel) rfl rfl (by simp [zsl_nil, zsl_rf, zsl_r, zsl_i, zsl_j, zsl_f, zsl_d]) (fun x hE => by simp only [zla_nil, zla_rf, zla_r, zla_i, zla_j, zla_f, zla_d, Nat.reduceAdd]; exact sm_X9_init hE this a1 a2)
theorem sm_X2_round {x : ZX (Option Nat)} {K : ZK} (hE : zE x K cX2_round RX2 "round" 2 2 122 encR (Option.some (Jvm.ClassFile.FieldType.object "TokenRing$State$Round")) []) (this : Nat) (a1 : Int32) : zS x 0 [(0, va_rf (some this)), (1, .int a1)] [] (s_X2_round K this a1) := by
  unfold s_X2_round
  refine zs_new hE (ci := 41) (fs := [.int 0, .null]) rfl in_X9 tyX9 tyX9_ok q2238 q2239 q148 (fun j hj => by rcases (show j = 0 ∨ j = 1 by omega) with rfl | rfl <;> rfl) dX2_round_0 (fun q1 => ?_)
  refine zs_dup hE (zcat_rf _) dX2_round_3 ?_
  refine zs_aload_n hE 0 rfl rfl dX2_round_4 ?_
  refine zs_iload_n hE 1 rfl rfl dX2_round_5 ?_
  refine zs_callI hE (As := [va_rf (some this), .int a1]) (encA := encV) (met_X9_init K q1 (some this) a1) q2242 q148 q2240 q2241 rfl hd_X9_init (by decide) (by decide) rfl (by simp [zcat_rf, zcat_i, zcat_j, zcat_f, zcat_d]) (fun z hz => by cases hz) dX2_round_6 (fun _ => ?_)
  show zS _ 9 _ [va_rf (some q1)] _
  exact zs_aret hE (Or.inl ⟨_, rfl⟩) dX2_round_9
theorem hd_X2_round : (yX2_round).cls ≠ "java/lang/invoke/MethodHandle" ∧ (yX2_round).cls ≠ "java/lang/invoke/VarHandle" ∧ (parseMethodDescriptor (yX2_round).desc).map (fun d => d.parameters.length) = some 1 := by decide +kernel
theorem met_X2_round (K : ZK) (this : Nat) (a1 : Int32) : zMeth K yX2_round (zws yX2_round cX2_round 2 (Option.some (Jvm.ClassFile.FieldType.object "TokenRing$State$Round"))) 2 122 [.ref this, .int a1] encR (s_X2_round K this a1) :=
  fun l G hl hK => zmet_of hl hK (by decide +kernel) rfl rfl (by simp [zsl_nil, zsl_rf, zsl_r, zsl_i, zsl_j, zsl_f, zsl_d]) (fun x hE => by simp only [zla_nil, zla_rf, zla_r, zla_i, zla_j, zla_f, zla_d, Nat.reduceAdd]; exact sm_X2_round hE this a1)
theorem sm_X10_init {x : ZX Unit} {K : ZK} (hE : zE x K cX10_init RX10 "<init>" 2 1 100 encV none []) (this : Nat) (a1 : Option Nat) : zS x 0 [(0, va_rf (some this)), (1, va_rf a1)] [] (s_X10_init K this a1) := by
  unfold s_X10_init
  refine zs_aload_n hE 0 rfl rfl dX10_init_0 ?_
  refine zs_aload_n hE 1 rfl rfl dX10_init_1 ?_
  refine zs_putR hE (ci := 25) (k := 2) rfl (by decide) in_X10 (Or.inl q2265) (Or.inl rfl) (Or.inr ⟨rfl, rfl, rfl⟩) (fun _ => q2265) (tyX10_ok 2 (by decide)) (Or.inl ⟨_, rfl⟩) dX10_init_2 ?_
  refine zs_aload_n hE 0 rfl rfl dX10_init_5 ?_
  refine zs_objInit hE q2262 q169 q170 (by decide) (by first | decide | simp [zcat_rf, zcat_i, zcat_j, zcat_f, zcat_d]) dX10_init_6 ?_
  refine zs_aload_n hE 0 rfl rfl dX10_init_9 ?_
  refine zs_aload_n hE 0 rfl rfl dX10_init_10 ?_
  refine zs_getR hE (ci := 25) (k := 2) rfl (by decide) in_X10 (Or.inl q2265) (Or.inl rfl) dX10_init_11 (fun v1 => ?_)
  refine zs_getI hE (ci := 41) (k := 0) rfl (by decide) in_X9 (Or.inr ⟨_, zn q2245 rfl⟩) (Or.inl rfl) dX10_init_14 (fun v2 => ?_)
  refine zs_putI hE (ci := 25) (k := 0) rfl (by decide) in_X10 (Or.inl q2263) (Or.inl rfl) (Or.inl rfl) (fun h => nomatch h) rfl dX10_init_17 ?_
  exact zs_vret hE dX10_init_20
theorem hd_X10_init : (yX10_init).cls ≠ "java/lang/invoke/MethodHandle" ∧ (yX10_init).cls ≠ "java/lang/invoke/VarHandle" ∧ (parseMethodDescriptor (yX10_init).desc).map (fun d => d.parameters.length) = some 1 := by decide +kernel
theorem met_X10_init (K : ZK) (this : Nat) (a1 : Option Nat) : zMeth K yX10_init (zws yX10_init cX10_init 2 none) 1 100 [.ref this, va_rf a1] encV (s_X10_init K this a1) :=
  fun l G hl hK => zmet_of hl hK (by decide +kernel) rfl rfl (by simp [zsl_nil, zsl_rf, zsl_r, zsl_i, zsl_j, zsl_f, zsl_d]) (fun x hE => by simp only [zla_nil, zla_rf, zla_r, zla_i, zla_j, zla_f, zla_d, Nat.reduceAdd]; exact sm_X10_init hE this a1)
theorem sm_X9_iterator {x : ZX (Option Nat)} {K : ZK} (hE : zE x K cX9_iterator RX9 "iterator" 1 2 121 encR (Option.some (Jvm.ClassFile.FieldType.object "java/util/Iterator")) []) (this : Nat) : zS x 0 [(0, va_rf (some this))] [] (s_X9_iterator K this) := by
  unfold s_X9_iterator
  refine zs_new hE (ci := 25) (fs := [.int 0, .int 0, .null]) rfl in_X10 tyX10 tyX10_ok q2257 q2258 q149 (fun j hj => by rcases (show j = 0 ∨ j = 1 ∨ j = 2 by omega) with rfl | rfl | rfl <;> rfl) dX9_iterator_0 (fun q1 => ?_)
  refine zs_dup hE (zcat_rf _) dX9_iterator_3 ?_
  refine zs_aload_n hE 0 rfl rfl dX9_iterator_4 ?_
  refine zs_callI hE (As := [va_rf (some this)]) (encA := encV) (met_X10_init K q1 (some this)) q2261 q149 q2259 q2260 rfl hd_X10_init (by decide) (by decide) rfl (by simp [zcat_rf, zcat_i, zcat_j, zcat_f, zcat_d]) (fun z hz => by cases hz) dX9_iterator_5 (fun _ => ?_)
  show zS _ 8 _ [va_rf (some q1)] _
  exact zs_aret hE (Or.inl ⟨_, rfl⟩) dX9_iterator_8
theorem hd_X9_iterator : (yX9_iterator).cls ≠ "java/lang/invoke/MethodHandle" ∧ (yX9_iterator).cls ≠ "java/lang/invoke/VarHandle" ∧ (parseMethodDescriptor (yX9_iterator).desc).map (fun d => d.parameters.length) = some 0 := by decide +kernel
theorem met_X9_iterator (K : ZK) (this : Nat) : zMeth K yX9_iterator (zws yX9_iterator cX9_iterator 1 (Option.some (Jvm.ClassFile.FieldType.object "java/util/Iterator"))) 2 121 [.ref this] encR (s_X9_iterator K this) :=
  fun l G hl hK => zmet_of hl hK (by decide +kernel) rfl rfl (by simp [zsl_nil, zsl_rf, zsl_r, zsl_i, zsl_j, zsl_f, zsl_d]) (fun x hE => by simp only [zla_nil, zla_rf, zla_r, zla_i, zla_j, zla_f, zla_d, Nat.reduceAdd]; exact sm_X9_iterator hE this)
theorem sm_X10_hasNext {x : ZX Int32} {K : ZK} (hE : zE x K cX10_hasNext RX10 "hasNext" 1 2 120 encI (Option.some Jvm.ClassFile.FieldType.boolean) []) (this : Nat) : zS x 0 [(0, va_rf (some this))] [] (s_X10_hasNext K this) := by
  unfold s_X10_hasNext
  refine zs_aload_n hE 0 rfl rfl dX10_hasNext_0 ?_
  refine zs_getI hE (ci := 25) (k := 1) rfl (by decide) in_X10 (Or.inl q2264) (Or.inl rfl) dX10_hasNext_1 (fun v1 => ?_)
  refine zs_aload_n hE 0 rfl rfl dX10_hasNext_4 ?_
  refine zs_getR hE (ci := 25) (k := 2) rfl (by decide) in_X10 (Or.inl q2265) (Or.inl rfl) dX10_hasNext_5 (fun v2 => ?_)
  refine zs_getR hE (ci := 41) (k := 1) rfl (by decide) in_X9 (Or.inl q2247) (Or.inl rfl) dX10_hasNext_8 (fun v3 => ?_)
  refine zs_getR hE (ci := 34) (k := 0) rfl (by decide) in_X2 (Or.inr ⟨_, zn q216 rfl⟩) (Or.inl rfl) dX10_hasNext_11 (fun v4 => ?_)
  refine zs_callV hE (As := []) (encA := encI) (ci := 0) rfl (fun y0 => met_J1_size K y0) q857 q98 q854 q855 (zq q856) hd_J1_size (by decide) (by decide) rfl (by simp [zcat_rf, zcat_i, zcat_j, zcat_f, zcat_d]) (fun z hz => by cases hz) dX10_hasNext_14 (fun r5 => ?_)
  show zS _ 17 _ [.int r5, .int v1] _
  refine zs_icmp_ge hE 24 (by decide) dX10_hasNext_17 ?_ ?_
  · refine zs_iconst hE (v := (0 : Int32)) (by decide) dX10_hasNext_24 ?_
    exact zs_zret hE rfl dX10_hasNext_25
  · refine zs_iconst hE (v := (1 : Int32)) (by decide) dX10_hasNext_20 ?_
    refine zs_goto hE 25 (by decide) dX10_hasNext_21 ?_
    exact zs_zret hE rfl dX10_hasNext_25
theorem hd_X10_hasNext : (yX10_hasNext).cls ≠ "java/lang/invoke/MethodHandle" ∧ (yX10_hasNext).cls ≠ "java/lang/invoke/VarHandle" ∧ (parseMethodDescriptor (yX10_hasNext).desc).map (fun d => d.parameters.length) = some 0 := by decide +kernel
theorem met_X10_hasNext (K : ZK) (this : Nat) : zMeth K yX10_hasNext (zws yX10_hasNext cX10_hasNext 1 (Option.some Jvm.ClassFile.FieldType.boolean)) 2 120 [.ref this] encI (s_X10_hasNext K this) :=
  fun l G hl hK => zmet_of hl hK (by decide +kernel) rfl rfl (by simp [zsl_nil, zsl_rf, zsl_r, zsl_i, zsl_j, zsl_f, zsl_d]) (fun x hE => by simp only [zla_nil, zla_rf, zla_r, zla_i, zla_j, zla_f, zla_d, Nat.reduceAdd]; exact sm_X10_hasNext hE this)
theorem sm_X10_next_2 {x : ZX (Option Nat)} {K : ZK} (hE : zE x K cX10_next_2 RX10 "next" 1 8 253 encR (Option.some (Jvm.ClassFile.FieldType.object "TokenRing$Station")) []) (this : Nat) : zS x 0 [(0, va_rf (some this))] [] (s_X10_next_2 K this) := by
  unfold s_X10_next_2
  refine zs_aload_n hE 0 rfl rfl dX10_next_2_0 ?_
  refine zs_aload_n hE 0 rfl rfl dX10_next_2_1 ?_
  refine zs_getR hE (ci := 25) (k := 2) rfl (by decide) in_X10 (Or.inl q2265) (Or.inl rfl) dX10_next_2_2 (fun v1 => ?_)
  refine zs_getR hE (ci := 41) (k := 1) rfl (by decide) in_X9 (Or.inl q2247) (Or.inl rfl) dX10_next_2_5 (fun v2 => ?_)
  refine zs_aload_n hE 0 rfl rfl dX10_next_2_8 ?_
  refine zs_getI hE (ci := 25) (k := 0) rfl (by decide) in_X10 (Or.inl q2263) (Or.inl rfl) dX10_next_2_9 (fun v3 => ?_)
  refine zs_callV hE (As := [.int v3]) (encA := encI) (ci := 34) rfl (fun y0 => met_X2_next K y0 v3) q901 q96 q898 q899 (zq q900) hd_X2_next (by decide) (by decide) rfl (by simp [zcat_rf, zcat_i, zcat_j, zcat_f, zcat_d]) (fun z hz => by cases hz) dX10_next_2_12 (fun r4 => ?_)
  show zS _ 15 _ [.int r4, va_rf (some this)] _
  refine zs_putI hE (ci := 25) (k := 0) rfl (by decide) in_X10 (Or.inl q2263) (Or.inl rfl) (Or.inl rfl) (fun h => nomatch h) rfl dX10_next_2_15 ?_
  refine zs_aload_n hE 0 rfl rfl dX10_next_2_18 ?_
  refine zs_dup hE (zcat_rf _) dX10_next_2_19 ?_
  refine zs_getI hE (ci := 25) (k := 1) rfl (by decide) in_X10 (Or.inl q2264) (Or.inl rfl) dX10_next_2_20 (fun v5 => ?_)
  refine zs_iconst hE (v := (1 : Int32)) (by decide) dX10_next_2_23 ?_
  refine zs_iadd hE dX10_next_2_24 ?_
  refine zs_putI hE (ci := 25) (k := 1) rfl (by decide) in_X10 (Or.inl q2264) (Or.inl rfl) (Or.inl rfl) (fun h => nomatch h) rfl dX10_next_2_25 ?_
  refine zs_aload_n hE 0 rfl rfl dX10_next_2_28 ?_
  refine zs_getR hE (ci := 25) (k := 2) rfl (by decide) in_X10 (Or.inl q2265) (Or.inl rfl) dX10_next_2_29 (fun v6 => ?_)
  refine zs_getR hE (ci := 41) (k := 1) rfl (by decide) in_X9 (Or.inl q2247) (Or.inl rfl) dX10_next_2_32 (fun v7 => ?_)
  refine zs_getR hE (ci := 34) (k := 0) rfl (by decide) in_X2 (Or.inr ⟨_, zn q216 rfl⟩) (Or.inl rfl) dX10_next_2_35 (fun v8 => ?_)
  refine zs_aload_n hE 0 rfl rfl dX10_next_2_38 ?_
  refine zs_getI hE (ci := 25) (k := 0) rfl (by decide) in_X10 (Or.inl q2263) (Or.inl rfl) dX10_next_2_39 (fun v9 => ?_)
  refine zs_callS hE (As := [.int v9]) (encA := encR) (met_J13_valueOf K v9) q904 q112 q1011 q903 hd_J13_valueOf (by decide) (by decide) rfl (by simp [zcat_rf, zcat_i, zcat_j, zcat_f, zcat_d]) (fun z hz => by cases hz) dX10_next_2_42 (fun r10 => ?_)
  show zS _ 45 _ [va_rf r10, va_rf v8] _
  refine zs_callV hE (As := [va_rf r10]) (encA := encR) (ci := 0) rfl (fun y0 => met_J1_get K y0 r10) q1015 q98 q1012 q1013 (zq q1014) hd_J1_get (by decide) (by decide) rfl (by simp [zcat_rf, zcat_i, zcat_j, zcat_f, zcat_d]) (fun z hz => by cases hz) dX10_next_2_45 (fun r11 => ?_)
  show zS _ 48 _ [va_rf r11] _
  refine zs_cast hE q1027 (zc1 rfl (Or.inl rfl)) dX10_next_2_48 ?_
  exact zs_aret hE (Or.inl ⟨_, rfl⟩) dX10_next_2_51
theorem hd_X10_next_2 : (yX10_next_2).cls ≠ "java/lang/invoke/MethodHandle" ∧ (yX10_next_2).cls ≠ "java/lang/invoke/VarHandle" ∧ (parseMethodDescriptor (yX10_next_2).desc).map (fun d => d.parameters.length) = some 0 := by decide +kernel
theorem met_X10_next_2 (K : ZK) (this : Nat) : zMeth K yX10_next_2 (zws yX10_next_2 cX10_next_2 1 (Option.some (Jvm.ClassFile.FieldType.object "TokenRing$Station"))) 8 253 [.ref this] encR (s_X10_next_2 K this) :=
  fun l G hl hK => zmet_of hl hK (by decide +kernel) rfl rfl (by simp [zsl_nil, zsl_rf, zsl_r, zsl_i, zsl_j, zsl_f, zsl_d]) (fun x hE => by simp only [zla_nil, zla_rf, zla_r, zla_i, zla_j, zla_f, zla_d, Nat.reduceAdd]; exact sm_X10_next_2 hE this)
theorem sm_X10_next {x : ZX (Option Nat)} {K : ZK} (hE : zE x K cX10_next RX10 "next" 1 9 273 encR (Option.some (Jvm.ClassFile.FieldType.object "java/lang/Object")) []) (this : Nat) : zS x 0 [(0, va_rf (some this))] [] (s_X10_next K this) := by
  unfold s_X10_next
  refine zs_aload_n hE 0 rfl rfl dX10_next_0 ?_
  refine zs_callV hE (As := []) (encA := encR) (ci := 25) rfl (fun y0 => met_X10_next_2 K y0) q897 q149 q894 q895 (zq q896) hd_X10_next_2 (by decide) (by decide) rfl (by simp [zcat_rf, zcat_i, zcat_j, zcat_f, zcat_d]) (fun z hz => by cases hz) dX10_next_1 (fun r1 => ?_)
  show zS _ 4 _ [va_rf r1] _
  exact zs_aret hE (Or.inl ⟨_, rfl⟩) dX10_next_4
theorem hd_X10_next : (yX10_next).cls ≠ "java/lang/invoke/MethodHandle" ∧ (yX10_next).cls ≠ "java/lang/invoke/VarHandle" ∧ (parseMethodDescriptor (yX10_next).desc).map (fun d => d.parameters.length) = some 0 := by decide +kernel
theorem met_X10_next (K : ZK) (this : Nat) : zMeth K yX10_next (zws yX10_next cX10_next 1 (Option.some (Jvm.ClassFile.FieldType.object "java/lang/Object"))) 9 273 [.ref this] encR (s_X10_next K this) :=
  fun l G hl hK => zmet_of hl hK (by decide +kernel) rfl rfl (by simp [zsl_nil, zsl_rf, zsl_r, zsl_i, zsl_j, zsl_f, zsl_d]) (fun x hE => by simp only [zla_nil, zla_rf, zla_r, zla_i, zla_j, zla_f, zla_d, Nat.reduceAdd]; exact sm_X10_next hE this)
theorem sm_X1_steps_B46 {x : ZX Int32} {K : ZK} (hE : zE x K cX1_steps RX1 "steps" 6 10 293 encI (Option.some Jvm.ClassFile.FieldType.int) []) (x2 : Int32) (x4 : Option Nat) (self46 : Int32 → ZP Int32) (hs46 : ∀ v : Int32, zS x 46 [(2, .int x2), (3, .int v), (4, va_rf x4)] [] (self46 v)) (x3 : Int32) : zS x 46 [(2, .int x2), (3, .int x3), (4, va_rf x4)] [] (s_X1_steps_B46 K x2 x4 self46 x3) := by
  unfold s_X1_steps_B46
  refine zs_aload hE 2 rfl dX1_steps_46 ?_
  refine zs_callF hE (xx := ⟨"java/util/Iterator", "hasNext", "()Z"⟩) (As := []) (encA := encI) (ci := 25) rfl (fun y0 => met_X10_hasNext K y0) q853 q149 q1389 (List.mem_of_getElem? (i := 5) rfl) q851 q849 hdx_h2 (by decide) (by decide) rfl (by simp [zcat_rf, zcat_i, zcat_j, zcat_f, zcat_d]) (fun z hz => by cases hz) dX1_steps_48 (fun r5 => ?_)
  show zS _ 53 _ [.int r5] _
  refine zs_if_eq hE 85 (by decide) dX1_steps_53 ?_ ?_
  · refine zs_iload_n hE 1 rfl rfl dX1_steps_85 ?_
    exact zs_iret hE dX1_steps_86
  · refine zs_aload hE 2 rfl dX1_steps_56 ?_
    refine zs_callF hE (xx := ⟨"java/util/Iterator", "next", "()Ljava/lang/Object;"⟩) (As := []) (encA := encR) (ci := 25) rfl (fun y0 => met_X10_next K y0) q893 q149 q1391 (List.mem_of_getElem? (i := 6) rfl) q891 q889 hdx_h4 (by decide) (by decide) rfl (by simp [zcat_rf, zcat_i, zcat_j, zcat_f, zcat_d]) (fun z hz => by cases hz) dX1_steps_58 (fun r6 => ?_)
    show zS _ 63 _ [va_rf r6] _
    refine zs_cast hE q1392 (zc1 rfl (Or.inl rfl)) dX1_steps_63 ?_
    refine zs_astore hE (i := 5) (by decide) (zcat_rf x4) (lv' := [(2, .int x2), (3, .int x3), (4, va_rf x4)]) rfl dX1_steps_66 ?_
    refine zs_iinc hE 2 (v := (1 : Int32)) rfl (by decide) (by decide) (rfl) (lv' := [(5, va_rf r6), (2, .int x2), (4, va_rf x4)]) rfl dX1_steps_68 ?_
    refine zs_aload hE 1 rfl dX1_steps_71 ?_
    refine zs_getI hE (ci := 37) (k := 0) rfl (by decide) in_X5 (Or.inr ⟨_, zn q1550 rfl⟩) (Or.inl rfl) dX1_steps_73 (fun v7 => ?_)
    refine zs_iload_n hE 2 rfl rfl dX1_steps_76 ?_
    refine zs_icmp_ne hE 82 (by decide) dX1_steps_77 ?_ ?_
    · refine zs_iload_n hE 0 rfl rfl dX1_steps_80 ?_
      exact zs_iret hE dX1_steps_81
    · refine zs_goto hE 46 (by decide) dX1_steps_82 ?_
      refine zs_sub [2, 0, 3] rfl ?_
      exact hs46 (x3 + (1 : Int32))
theorem sm_X1_steps_L46 {x : ZX Int32} {K : ZK} (hE : zE x K cX1_steps RX1 "steps" 6 10 293 encI (Option.some Jvm.ClassFile.FieldType.int) []) (x2 : Int32) (x4 : Option Nat) (v : Int32) : zS x 46 [(2, .int x2), (3, .int v), (4, va_rf x4)] [] (s_X1_steps_L46 K x2 x4 v) := by
  unfold s_X1_steps_L46
  exact zs_loop (lvf := fun v => [(2, .int x2), (3, .int v), (4, va_rf x4)]) (fun self46 hs46 v => sm_X1_steps_B46 hE x2 x4 self46 hs46 v) v
theorem sm_X1_steps_J21 {x : ZX Int32} {K : ZK} (hE : zE x K cX1_steps RX1 "steps" 6 10 293 encI (Option.some Jvm.ClassFile.FieldType.int) []) (x0 : Nat) (x1 : Int32) (x2 : Int32) (t0 : Int32) : zS x 21 [(0, va_rf (some x0)), (1, .int x1), (2, .int x2)] [.int t0] (s_X1_steps_J21 K x0 x1 x2 t0) := by
  unfold s_X1_steps_J21
  refine zs_callS hE (As := [.int t0]) (encA := encV) (met_X1_checkIndex K t0) q2175 q95 q2173 q2174 hd_X1_checkIndex (by decide) (by decide) rfl (by simp [zcat_rf, zcat_i, zcat_j, zcat_f, zcat_d]) (fun z hz => by cases hz) dX1_steps_21 (fun _ => ?_)
  show zS _ 24 _ [] _
  refine zs_iconst hE (v := (0 : Int32)) (by decide) dX1_steps_24 ?_
  refine zs_istore_n hE (i := 3) (q := 3) rfl (by decide) (rfl) (lv' := [(0, va_rf (some x0)), (1, .int x1), (2, .int x2)]) rfl dX1_steps_25 ?_
  refine zs_iload_n hE 2 rfl rfl dX1_steps_26 ?_
  refine zs_iload_n hE 3 rfl rfl dX1_steps_27 ?_
  refine zs_icmp_ne hE 33 (by decide) dX1_steps_28 ?_ ?_
  · refine zs_iload_n hE 0 rfl rfl dX1_steps_31 ?_
    exact zs_iret hE dX1_steps_32
  · refine zs_aload_n hE 1 rfl rfl dX1_steps_33 ?_
    refine zs_getR hE (ci := 24) (k := 0) rfl (by decide) in_X1 (Or.inl q391) (Or.inl rfl) dX1_steps_34 (fun v2 => ?_)
    refine zs_iload_n hE 2 rfl rfl dX1_steps_37 ?_
    refine zs_callV hE (As := [.int x1]) (encA := encR) (ci := 34) rfl (fun y0 => met_X2_round K y0 x1) q2237 q96 q2234 q2235 (zq q2236) hd_X2_round (by decide) (by decide) rfl (by simp [zcat_rf, zcat_i, zcat_j, zcat_f, zcat_d]) (fun z hz => by cases hz) dX1_steps_38 (fun r3 => ?_)
    show zS _ 41 _ [va_rf r3] _
    refine zs_callV hE (As := []) (encA := encR) (ci := 41) rfl (fun y0 => met_X9_iterator K y0) q2256 q148 q2253 q2254 (zq q2255) hd_X9_iterator (by decide) (by decide) rfl (by simp [zcat_rf, zcat_i, zcat_j, zcat_f, zcat_d]) (fun z hz => by cases hz) dX1_steps_41 (fun r4 => ?_)
    show zS _ 44 _ [va_rf r4] _
    refine zs_astore hE (i := 4) (by decide) (rfl) (lv' := [(3, .int (0 : Int32)), (0, va_rf (some x0)), (1, .int x1), (2, .int x2)]) rfl dX1_steps_44 ?_
    refine zs_sub [4, 1, 0] rfl ?_
    exact sm_X1_steps_L46 hE x2 r4 (0 : Int32)
theorem sm_X1_steps_J20 {x : ZX Int32} {K : ZK} (hE : zE x K cX1_steps RX1 "steps" 6 10 293 encI (Option.some Jvm.ClassFile.FieldType.int) []) (x0 : Nat) (x1 : Int32) (x2 : Int32) : zS x 20 [(0, va_rf (some x0)), (1, .int x1), (2, .int x2)] [] (s_X1_steps_J20 K x0 x1 x2) := by
  unfold s_X1_steps_J20
  refine zs_iconst hE (v := (0 : Int32)) (by decide) dX1_steps_20 ?_
  exact sm_X1_steps_J21 hE x0 x1 x2 (0 : Int32)
theorem sm_X1_steps {x : ZX Int32} {K : ZK} (hE : zE x K cX1_steps RX1 "steps" 6 10 293 encI (Option.some Jvm.ClassFile.FieldType.int) []) (this : Nat) (a1 : Int32) (a2 : Int32) : zS x 0 [(0, va_rf (some this)), (1, .int a1), (2, .int a2)] [] (s_X1_steps K this a1 a2) := by
  unfold s_X1_steps
  refine zs_aload_n hE 0 rfl rfl dX1_steps_0 ?_
  refine zs_iload_n hE 1 rfl rfl dX1_steps_1 ?_
  refine zs_callV hE (As := [.int a1]) (encA := encI) (ci := 24) rfl (fun y0 => met_X1_isStation K y0 a1) q1818 q95 q1815 q1817 (zq qs12) hd_X1_isStation (by decide) (by decide) rfl (by simp [zcat_rf, zcat_i, zcat_j, zcat_f, zcat_d]) (fun z hz => by cases hz) dX1_steps_2 (fun r1 => ?_)
  show zS _ 5 _ [.int r1] _
  refine zs_if_eq hE 20 (by decide) dX1_steps_5 ?_ ?_
  · exact sm_X1_steps_J20 hE this a1 a2
  · refine zs_aload_n hE 0 rfl rfl dX1_steps_8 ?_
    refine zs_iload_n hE 2 rfl rfl dX1_steps_9 ?_
    refine zs_callV hE (As := [.int a2]) (encA := encI) (ci := 24) rfl (fun y0 => met_X1_isStation K y0 a2) q1818 q95 q1815 q1817 (zq qs12) hd_X1_isStation (by decide) (by decide) rfl (by simp [zcat_rf, zcat_i, zcat_j, zcat_f, zcat_d]) (fun z hz => by cases hz) dX1_steps_10 (fun r8 => ?_)
    show zS _ 13 _ [.int r8] _
    refine zs_if_eq hE 20 (by decide) dX1_steps_13 ?_ ?_
    · exact sm_X1_steps_J20 hE this a1 a2
    · refine zs_iconst hE (v := (1 : Int32)) (by decide) dX1_steps_16 ?_
      refine zs_goto hE 21 (by decide) dX1_steps_17 ?_
      exact sm_X1_steps_J21 hE this a1 a2 (1 : Int32)
theorem hd_X1_steps : (yX1_steps).cls ≠ "java/lang/invoke/MethodHandle" ∧ (yX1_steps).cls ≠ "java/lang/invoke/VarHandle" ∧ (parseMethodDescriptor (yX1_steps).desc).map (fun d => d.parameters.length) = some 2 := by decide +kernel
theorem met_X1_steps (K : ZK) (this : Nat) (a1 : Int32) (a2 : Int32) : zMeth K yX1_steps (zws yX1_steps cX1_steps 6 (Option.some Jvm.ClassFile.FieldType.int)) 10 293 [.ref this, .int a1, .int a2] encI (s_X1_steps K this a1 a2) :=
  fun l G hl hK => zmet_of hl hK (by decide +kernel) rfl rfl (by simp [zsl_nil, zsl_rf, zsl_r, zsl_i, zsl_j, zsl_f, zsl_d]) (fun x hE => by simp only [zla_nil, zla_rf, zla_r, zla_i, zla_j, zla_f, zla_d, Nat.reduceAdd]; exact sm_X1_steps hE this a1 a2)
theorem sm_X0_steps {x : ZX Int32} {K : ZK} (hE : zE x K cX0_steps RX0 "steps" 5 11 318 encI (Option.some Jvm.ClassFile.FieldType.int) (tableOf [((0 : Nat), (10 : Nat), (13 : Nat), (52 : Nat))])) (a1 : Option Nat) (a2 : Int32) (a3 : Int32) (a4 : Option Nat) : zS x 0 [(0, va_rf a1), (1, .int a2), (2, .int a3), (3, va_rf a4)] [] (s_X0_steps K a1 a2 a3 a4) := by
  unfold s_X0_steps
  refine zs_aload_n hE 3 rfl rfl dX0_steps_0 ?_
  refine zs_iconst hE (v := (0 : Int32)) (by decide) dX0_steps_1 ?_
  refine zs_aload_n hE 0 rfl rfl dX0_steps_2 ?_
  refine zs_iload_n hE 1 rfl rfl dX0_steps_3 ?_
  refine zs_iload_n hE 2 rfl rfl dX0_steps_4 ?_
  refine zs_callVT hE (As := [.int a2, .int a3]) (encA := encI) (ci := 24) rfl (fun y0 => met_X1_steps K y0 a2 a3) q2233 q95 q2230 q2231 (zq q2232) hd_X1_steps (by decide) (by decide) rfl (by simp [zcat_rf, zcat_i, zcat_j, zcat_f, zcat_d]) (zhl_cons (zhnd (tableOf []) (tableOf []) ⟨0, 10, 13, 52⟩ rfl (fun w hw => by cases hw) (by decide) (by decide) q2162 (zn q1987 rfl) (fun q1 => ?_)) zhl_nil) dX0_steps_5 (fun r2 => ?_)
  · have hE := zE_q q1 2 hE
    have hq := zqin_q (x := x) q1 2
    refine zs_astore hE (i := 4) (by decide) (zcat_rf a4) (lv' := [(0, va_rf a1), (1, .int a2), (2, .int a3), (3, va_rf a4)]) rfl dX0_steps_13 ?_
    refine zs_iconst hE (v := (1 : Int32)) (by decide) dX0_steps_15 ?_
    exact zs_iret hE dX0_steps_16
  · show zS _ 8 _ [.int r2, .int (0 : Int32), va_rf a4] _
    refine zs_i2l hE dX0_steps_8 ?_
    refine zs_astJ hE dX0_steps_9 ?_
    refine zs_goto hE 17 (by decide) dX0_steps_10 ?_
    refine zs_iconst hE (v := (0 : Int32)) (by decide) dX0_steps_17 ?_
    exact zs_iret hE dX0_steps_18
theorem hd_X0_steps : (yX0_steps).cls ≠ "java/lang/invoke/MethodHandle" ∧ (yX0_steps).cls ≠ "java/lang/invoke/VarHandle" ∧ (parseMethodDescriptor (yX0_steps).desc).map (fun d => d.parameters.length) = some 4 := by decide +kernel
theorem met_X0_steps (K : ZK) (a1 : Option Nat) (a2 : Int32) (a3 : Int32) (a4 : Option Nat) : zMeth K yX0_steps (zwsW yX0_steps cX0_steps 5 (Option.some Jvm.ClassFile.FieldType.int) [((0 : Nat), (10 : Nat), (13 : Nat), (52 : Nat))]) 11 318 [va_rf a1, .int a2, .int a3, va_rf a4] encI (s_X0_steps K a1 a2 a3 a4) :=
  fun l G hl hK => zmet_ofH hl hK (by decide +kernel) rfl rfl (by simp [zsl_nil, zsl_rf, zsl_r, zsl_i, zsl_j, zsl_f, zsl_d]) (fun x hE => by simp only [zla_nil, zla_rf, zla_r, zla_i, zla_j, zla_f, zla_d, Nat.reduceAdd]; exact sm_X0_steps hE a1 a2 a3 a4)
theorem sm_J0_init__J43 {x : ZX Unit} {K : ZK} (hE : zE x K cJ0_init RJ0 "<init>" 1 1 100 encV none []) (this : Nat) : zS x 0 [(0, va_rf (some this))] [] (s_J0_init__J43 K this) := by
  unfold s_J0_init__J43
  refine zs_aload_n hE 0 rfl rfl dJ0_init_0 ?_
  refine zs_objInit hE q185 q169 q170 (by decide) (by first | decide | simp [zcat_rf, zcat_i, zcat_j, zcat_f, zcat_d]) dJ0_init_1 ?_
  exact zs_vret hE dJ0_init_4
theorem hd_J0_init__J43 : (yJ0_init).cls ≠ "java/lang/invoke/MethodHandle" ∧ (yJ0_init).cls ≠ "java/lang/invoke/VarHandle" ∧ (parseMethodDescriptor (yJ0_init).desc).map (fun d => d.parameters.length) = some 0 := by decide +kernel
theorem met_J0_init__J43 (K : ZK) (this : Nat) : zMeth K yJ0_init (zws yJ0_init cJ0_init 1 none) 1 100 [.ref this] encV (s_J0_init__J43 K this) :=
  fun l G hl hK => zmet_of hl hK (by decide +kernel) rfl rfl (by simp [zsl_nil, zsl_rf, zsl_r, zsl_i, zsl_j, zsl_f, zsl_d]) (fun x hE => by simp only [zla_nil, zla_rf, zla_r, zla_i, zla_j, zla_f, zla_d, Nat.reduceAdd]; exact sm_J0_init__J43 hE this)
theorem sm_J42_init__J43_J58 {x : ZX Unit} {K : ZK} (hE : zE x K cJ42_init RJ42 "<init>" 8 5 185 encV none []) (x0 : Nat) (x1 : Option Nat) (x2 : Int32) (x3 : Option Nat) (x4 : Int32) (x5 : Int32) (x6 : Option Nat) (x7 : Int32) : zS x 58 [(0, va_rf (some x0)), (1, va_rf x1), (2, .int x2), (3, va_rf x3), (4, .int x4), (5, .int x5), (6, va_rf x6), (7, .int x7)] [] (s_J42_init__J43_J58 K x0 x1 x2 x3 x4 x5 x6 x7) := by
  unfold s_J42_init__J43_J58
  refine zs_aload_n hE 0 rfl rfl dJ42_init_58 ?_
  refine zs_aload_n hE 1 rfl rfl dJ42_init_59 ?_
  refine zs_putR hE (ci := 18) (k := 0) rfl (by decide) in_J43 (Or.inl q2305) (Or.inl rfl) (Or.inr ⟨rfl, rfl, rfl⟩) (fun _ => q2305) (tyJ43_ok 0 (by decide)) (Or.inl ⟨_, rfl⟩) dJ42_init_60 ?_
  refine zs_aload_n hE 0 rfl rfl dJ42_init_63 ?_
  refine zs_iload_n hE 2 rfl rfl dJ42_init_64 ?_
  refine zs_putT hE (ci := 18) (k := 3) rfl (by decide) in_J43 (Or.inl q2309) (Or.inl rfl) (Or.inr ⟨rfl, rfl, rfl⟩) (fun _ => q2309) rfl dJ42_init_65 ?_
  refine zs_aload_n hE 0 rfl rfl dJ42_init_68 ?_
  refine zs_aload_n hE 3 rfl rfl dJ42_init_69 ?_
  refine zs_putR hE (ci := 18) (k := 1) rfl (by decide) in_J43 (Or.inl q2307) (Or.inl rfl) (Or.inr ⟨rfl, rfl, rfl⟩) (fun _ => q2307) (tyJ43_ok 1 (by decide)) (Or.inl ⟨_, rfl⟩) dJ42_init_70 ?_
  refine zs_aload_n hE 0 rfl rfl dJ42_init_73 ?_
  refine zs_iload hE 4 rfl dJ42_init_74 ?_
  refine zs_putT hE (ci := 18) (k := 5) rfl (by decide) in_J43 (Or.inl q2313) (Or.inl rfl) (Or.inr ⟨rfl, rfl, rfl⟩) (fun _ => q2313) rfl dJ42_init_76 ?_
  refine zs_aload_n hE 0 rfl rfl dJ42_init_79 ?_
  refine zs_iload hE 5 rfl dJ42_init_80 ?_
  refine zs_putT hE (ci := 18) (k := 4) rfl (by decide) in_J43 (Or.inl q2311) (Or.inl rfl) (Or.inr ⟨rfl, rfl, rfl⟩) (fun _ => q2311) rfl dJ42_init_82 ?_
  refine zs_aload_n hE 0 rfl rfl dJ42_init_85 ?_
  refine zs_aload hE 6 rfl dJ42_init_86 ?_
  refine zs_putR hE (ci := 18) (k := 2) rfl (by decide) in_J43 (Or.inl q2308) (Or.inl rfl) (Or.inr ⟨rfl, rfl, rfl⟩) (fun _ => q2308) (tyJ43_ok 2 (by decide)) (Or.inl ⟨_, rfl⟩) dJ42_init_88 ?_
  refine zs_aload_n hE 0 rfl rfl dJ42_init_91 ?_
  refine zs_iload hE 7 rfl dJ42_init_92 ?_
  refine zs_putT hE (ci := 18) (k := 6) rfl (by decide) in_J43 (Or.inl q2314) (Or.inl rfl) (Or.inr ⟨rfl, rfl, rfl⟩) (fun _ => q2314) rfl dJ42_init_94 ?_
  exact zs_vret hE dJ42_init_97
theorem sm_J42_init__J43_J44 {x : ZX Unit} {K : ZK} (hE : zE x K cJ42_init RJ42 "<init>" 8 5 185 encV none []) (x0 : Nat) (x1 : Option Nat) (x2 : Int32) (x3 : Option Nat) (x4 : Int32) (x5 : Int32) (x6 : Option Nat) (x7 : Int32) : zS x 44 [(0, va_rf (some x0)), (1, va_rf x1), (2, .int x2), (3, va_rf x3), (4, .int x4), (5, .int x5), (6, va_rf x6), (7, .int x7)] [] (s_J42_init__J43_J44 K x0 x1 x2 x3 x4 x5 x6 x7) := by
  unfold s_J42_init__J43_J44
  refine zs_iload hE 5 rfl dJ42_init_44 ?_
  refine zs_if_ne hE 58 (by decide) dJ42_init_46 ?_ ?_
  · refine zs_aload_n hE 1 rfl rfl dJ42_init_49 ?_
    refine zs_aload hE 6 rfl dJ42_init_50 ?_
    refine zs_aload hE 6 rfl dJ42_init_52 ?_
    refine zs_callV hE (As := [va_rf x6, va_rf x6]) (encA := encI) (ci := 0) rfl (fun y0 => met_J1_compare K y0 x6 x6) q524 q98 q765 q522 (zq q523) hd_J1_compare (by decide) (by decide) rfl (by simp [zcat_rf, zcat_i, zcat_j, zcat_f, zcat_d]) (fun z hz => by cases hz) dJ42_init_54 (fun r3 => ?_)
    show zS _ 57 _ [.int r3] _
    refine zs_pop hE (rfl) dJ42_init_57 ?_
    exact sm_J42_init__J43_J58 hE x0 x1 x2 x3 x4 x5 x6 x7
  · exact sm_J42_init__J43_J58 hE x0 x1 x2 x3 x4 x5 x6 x7
theorem sm_J42_init__J43_J33 {x : ZX Unit} {K : ZK} (hE : zE x K cJ42_init RJ42 "<init>" 8 5 185 encV none []) (x0 : Nat) (x1 : Option Nat) (x2 : Int32) (x3 : Option Nat) (x4 : Int32) (x5 : Int32) (x6 : Option Nat) (x7 : Int32) : zS x 33 [(0, va_rf (some x0)), (1, va_rf x1), (2, .int x2), (3, va_rf x3), (4, .int x4), (5, .int x5), (6, va_rf x6), (7, .int x7)] [] (s_J42_init__J43_J33 K x0 x1 x2 x3 x4 x5 x6 x7) := by
  unfold s_J42_init__J43_J33
  refine zs_iload_n hE 2 rfl rfl dJ42_init_33 ?_
  refine zs_if_ne hE 44 (by decide) dJ42_init_34 ?_ ?_
  · refine zs_aload_n hE 1 rfl rfl dJ42_init_37 ?_
    refine zs_aload_n hE 3 rfl rfl dJ42_init_38 ?_
    refine zs_aload_n hE 3 rfl rfl dJ42_init_39 ?_
    refine zs_callV hE (As := [va_rf x3, va_rf x3]) (encA := encI) (ci := 0) rfl (fun y0 => met_J1_compare K y0 x3 x3) q524 q98 q765 q522 (zq q523) hd_J1_compare (by decide) (by decide) rfl (by simp [zcat_rf, zcat_i, zcat_j, zcat_f, zcat_d]) (fun z hz => by cases hz) dJ42_init_40 (fun r2 => ?_)
    show zS _ 43 _ [.int r2] _
    refine zs_pop hE (rfl) dJ42_init_43 ?_
    exact sm_J42_init__J43_J44 hE x0 x1 x2 x3 x4 x5 x6 x7
  · exact sm_J42_init__J43_J44 hE x0 x1 x2 x3 x4 x5 x6 x7
theorem sm_J42_init__J43 {x : ZX Unit} {K : ZK} (hE : zE x K cJ42_init RJ42 "<init>" 8 5 185 encV none []) (this : Nat) (a1 : Option Nat) (a2 : Int32) (a3 : Option Nat) (a4 : Int32) (a5 : Int32) (a6 : Option Nat) (a7 : Int32) : zS x 0 [(0, va_rf (some this)), (1, va_rf a1), (2, .int a2), (3, va_rf a3), (4, .int a4), (5, .int a5), (6, va_rf a6), (7, .int a7)] [] (s_J42_init__J43 K this a1 a2 a3 a4 a5 a6 a7) := by
  unfold s_J42_init__J43
  refine zs_aload_n hE 0 rfl rfl dJ42_init_0 ?_
  refine zs_callI hE (As := []) (encA := encV) (met_J0_init__J43 K this) q184 q97 q2300 q183 rfl hd_J0_init__J43 (by decide) (by decide) rfl (by simp [zcat_rf, zcat_i, zcat_j, zcat_f, zcat_d]) (fun z hz => by cases hz) dJ42_init_1 (fun _ => ?_)
  show zS _ 4 _ [] _
  refine zs_iload_n hE 2 rfl rfl dJ42_init_4 ?_
  refine zs_if_ne hE 33 (by decide) dJ42_init_5 ?_ ?_
  · refine zs_iload hE 5 rfl dJ42_init_8 ?_
    refine zs_if_ne hE 33 (by decide) dJ42_init_10 ?_ ?_
    · refine zs_aload_n hE 1 rfl rfl dJ42_init_13 ?_
      refine zs_aload_n hE 3 rfl rfl dJ42_init_14 ?_
      refine zs_aload hE 6 rfl dJ42_init_15 ?_
      refine zs_callV hE (As := [va_rf a3, va_rf a6]) (encA := encI) (ci := 0) rfl (fun y0 => met_J1_compare K y0 a3 a6) q524 q98 q765 q522 (zq q523) hd_J1_compare (by decide) (by decide) rfl (by simp [zcat_rf, zcat_i, zcat_j, zcat_f, zcat_d]) (fun z hz => by cases hz) dJ42_init_17 (fun r1 => ?_)
      show zS _ 20 _ [.int r1] _
      refine zs_if_le hE 58 (by decide) dJ42_init_20 ?_ ?_
      · exact sm_J42_init__J43_J58 hE this a1 a2 a3 a4 a5 a6 a7
      · exact zs_bad
    · exact sm_J42_init__J43_J33 hE this a1 a2 a3 a4 a5 a6 a7
  · exact sm_J42_init__J43_J33 hE this a1 a2 a3 a4 a5 a6 a7
theorem hd_J42_init__J43 : (yJ42_init).cls ≠ "java/lang/invoke/MethodHandle" ∧ (yJ42_init).cls ≠ "java/lang/invoke/VarHandle" ∧ (parseMethodDescriptor (yJ42_init).desc).map (fun d => d.parameters.length) = some 7 := by decide +kernel
theorem met_J42_init__J43 (K : ZK) (this : Nat) (a1 : Option Nat) (a2 : Int32) (a3 : Option Nat) (a4 : Int32) (a5 : Int32) (a6 : Option Nat) (a7 : Int32) : zMeth K yJ42_init (zws yJ42_init cJ42_init 8 none) 5 185 [.ref this, va_rf a1, .int a2, va_rf a3, .int a4, .int a5, va_rf a6, .int a7] encV (s_J42_init__J43 K this a1 a2 a3 a4 a5 a6 a7) :=
  fun l G hl hK => zmet_of hl hK (by decide +kernel) rfl rfl (by simp [zsl_nil, zsl_rf, zsl_r, zsl_i, zsl_j, zsl_f, zsl_d]) (fun x hE => by simp only [zla_nil, zla_rf, zla_r, zla_i, zla_j, zla_f, zla_d, Nat.reduceAdd]; exact sm_J42_init__J43 hE this a1 a2 a3 a4 a5 a6 a7)
theorem sm_J43_init {x : ZX Unit} {K : ZK} (hE : zE x K cJ43_init RJ43 "<init>" 8 6 212 encV none []) (this : Nat) (a1 : Option Nat) (a2 : Int32) (a3 : Option Nat) (a4 : Int32) (a5 : Int32) (a6 : Option Nat) (a7 : Int32) : zS x 0 [(0, va_rf (some this)), (1, va_rf a1), (2, .int a2), (3, va_rf a3), (4, .int a4), (5, .int a5), (6, va_rf a6), (7, .int a7)] [] (s_J43_init K this a1 a2 a3 a4 a5 a6 a7) := by
  unfold s_J43_init
  refine zs_aload_n hE 0 rfl rfl dJ43_init_0 ?_
  refine zs_aload_n hE 1 rfl rfl dJ43_init_1 ?_
  refine zs_iload_n hE 2 rfl rfl dJ43_init_2 ?_
  refine zs_aload_n hE 3 rfl rfl dJ43_init_3 ?_
  refine zs_iload hE 4 rfl dJ43_init_4 ?_
  refine zs_iload hE 5 rfl dJ43_init_6 ?_
  refine zs_aload hE 6 rfl dJ43_init_8 ?_
  refine zs_iload hE 7 rfl dJ43_init_10 ?_
  refine zs_callI hE (As := [va_rf a1, .int a2, va_rf a3, .int a4, .int a5, va_rf a6, .int a7]) (encA := encV) (met_J42_init__J43 K this a1 a2 a3 a4 a5 a6 a7) q2299 q150 q2297 q2298 rfl hd_J42_init__J43 (by decide) (by decide) rfl (by simp [zcat_rf, zcat_i, zcat_j, zcat_f, zcat_d]) (fun z hz => by cases hz) dJ43_init_12 (fun _ => ?_)
  show zS _ 15 _ [] _
  exact zs_vret hE dJ43_init_15
theorem hd_J43_init : (yJ43_init).cls ≠ "java/lang/invoke/MethodHandle" ∧ (yJ43_init).cls ≠ "java/lang/invoke/VarHandle" ∧ (parseMethodDescriptor (yJ43_init).desc).map (fun d => d.parameters.length) = some 7 := by decide +kernel
theorem met_J43_init (K : ZK) (this : Nat) (a1 : Option Nat) (a2 : Int32) (a3 : Option Nat) (a4 : Int32) (a5 : Int32) (a6 : Option Nat) (a7 : Int32) : zMeth K yJ43_init (zws yJ43_init cJ43_init 8 none) 6 212 [.ref this, va_rf a1, .int a2, va_rf a3, .int a4, .int a5, va_rf a6, .int a7] encV (s_J43_init K this a1 a2 a3 a4 a5 a6 a7) :=
  fun l G hl hK => zmet_of hl hK (by decide +kernel) rfl rfl (by simp [zsl_nil, zsl_rf, zsl_r, zsl_i, zsl_j, zsl_f, zsl_d]) (fun x hE => by simp only [zla_nil, zla_rf, zla_r, zla_i, zla_j, zla_f, zla_d, Nat.reduceAdd]; exact sm_J43_init hE this a1 a2 a3 a4 a5 a6 a7)
theorem sm_J1_headMap_2 {x : ZX (Option Nat)} {K : ZK} (hE : zE x K cJ1_headMap_2 RJ1 "headMap" 3 7 239 encR (Option.some (Jvm.ClassFile.FieldType.object "java/util/NavigableMap")) []) (this : Nat) (a1 : Option Nat) (a2 : Int32) : zS x 0 [(0, va_rf (some this)), (1, va_rf a1), (2, .int a2)] [] (s_J1_headMap_2 K this a1 a2) := by
  unfold s_J1_headMap_2
  refine zs_new hE (ci := 18) (fs := [.null, .null, .null, .int 0, .int 0, .int 0, .int 0, .null, .null, .null, .null, .null]) rfl in_J43 tyJ43 tyJ43_ok q2292 q2293 q151 (fun j hj => by rcases (show j = 0 ∨ j = 1 ∨ j = 2 ∨ j = 3 ∨ j = 4 ∨ j = 5 ∨ j = 6 ∨ j = 7 ∨ j = 8 ∨ j = 9 ∨ j = 10 ∨ j = 11 by omega) with rfl | rfl | rfl | rfl | rfl | rfl | rfl | rfl | rfl | rfl | rfl | rfl <;> rfl) dJ1_headMap_2_0 (fun q1 => ?_)
  refine zs_dup hE (zcat_rf _) dJ1_headMap_2_3 ?_
  refine zs_aload_n hE 0 rfl rfl dJ1_headMap_2_4 ?_
  refine zs_iconst hE (v := (1 : Int32)) (by decide) dJ1_headMap_2_5 ?_
  refine zs_null hE dJ1_headMap_2_6 ?_
  refine zs_iconst hE (v := (1 : Int32)) (by decide) dJ1_headMap_2_7 ?_
  refine zs_iconst hE (v := (0 : Int32)) (by decide) dJ1_headMap_2_8 ?_
  refine zs_aload_n hE 1 rfl rfl dJ1_headMap_2_9 ?_
  refine zs_iload_n hE 2 rfl rfl dJ1_headMap_2_10 ?_
  refine zs_callI hE (As := [va_rf (some this), .int (1 : Int32), va_rf none, .int (1 : Int32), .int (0 : Int32), va_rf a1, .int a2]) (encA := encV) (met_J43_init K q1 (some this) (1 : Int32) none (1 : Int32) (0 : Int32) a1 a2) q2296 q151 q2294 q2295 rfl hd_J43_init (by decide) (by decide) rfl (by simp [zcat_rf, zcat_i, zcat_j, zcat_f, zcat_d]) (fun z hz => by cases hz) dJ1_headMap_2_11 (fun _ => ?_)
  show zS _ 14 _ [va_rf (some q1)] _
  exact zs_aret hE (Or.inl ⟨_, rfl⟩) dJ1_headMap_2_14
theorem hd_J1_headMap_2 : (yJ1_headMap_2).cls ≠ "java/lang/invoke/MethodHandle" ∧ (yJ1_headMap_2).cls ≠ "java/lang/invoke/VarHandle" ∧ (parseMethodDescriptor (yJ1_headMap_2).desc).map (fun d => d.parameters.length) = some 2 := by decide +kernel
theorem met_J1_headMap_2 (K : ZK) (this : Nat) (a1 : Option Nat) (a2 : Int32) : zMeth K yJ1_headMap_2 (zws yJ1_headMap_2 cJ1_headMap_2 3 (Option.some (Jvm.ClassFile.FieldType.object "java/util/NavigableMap"))) 7 239 [.ref this, va_rf a1, .int a2] encR (s_J1_headMap_2 K this a1 a2) :=
  fun l G hl hK => zmet_of hl hK (by decide +kernel) rfl rfl (by simp [zsl_nil, zsl_rf, zsl_r, zsl_i, zsl_j, zsl_f, zsl_d]) (fun x hE => by simp only [zla_nil, zla_rf, zla_r, zla_i, zla_j, zla_f, zla_d, Nat.reduceAdd]; exact sm_J1_headMap_2 hE this a1 a2)
theorem sm_J1_headMap {x : ZX (Option Nat)} {K : ZK} (hE : zE x K cJ1_headMap RJ1 "headMap" 2 8 261 encR (Option.some (Jvm.ClassFile.FieldType.object "java/util/SortedMap")) []) (this : Nat) (a1 : Option Nat) : zS x 0 [(0, va_rf (some this)), (1, va_rf a1)] [] (s_J1_headMap K this a1) := by
  unfold s_J1_headMap
  refine zs_aload_n hE 0 rfl rfl dJ1_headMap_0 ?_
  refine zs_aload_n hE 1 rfl rfl dJ1_headMap_1 ?_
  refine zs_iconst hE (v := (0 : Int32)) (by decide) dJ1_headMap_2 ?_
  refine zs_callV hE (As := [va_rf a1, .int (0 : Int32)]) (encA := encR) (ci := 0) rfl (fun y0 => met_J1_headMap_2 K y0 a1 (0 : Int32)) q2291 q98 q2288 q2289 (zq q2290) hd_J1_headMap_2 (by decide) (by decide) rfl (by simp [zcat_rf, zcat_i, zcat_j, zcat_f, zcat_d]) (fun z hz => by cases hz) dJ1_headMap_3 (fun r1 => ?_)
  show zS _ 6 _ [va_rf r1] _
  exact zs_aret hE (Or.inl ⟨_, rfl⟩) dJ1_headMap_6
theorem hd_J1_headMap : (yJ1_headMap).cls ≠ "java/lang/invoke/MethodHandle" ∧ (yJ1_headMap).cls ≠ "java/lang/invoke/VarHandle" ∧ (parseMethodDescriptor (yJ1_headMap).desc).map (fun d => d.parameters.length) = some 1 := by decide +kernel
theorem met_J1_headMap (K : ZK) (this : Nat) (a1 : Option Nat) : zMeth K yJ1_headMap (zws yJ1_headMap cJ1_headMap 2 (Option.some (Jvm.ClassFile.FieldType.object "java/util/SortedMap"))) 8 261 [.ref this, va_rf a1] encR (s_J1_headMap K this a1) :=
  fun l G hl hK => zmet_of hl hK (by decide +kernel) rfl rfl (by simp [zsl_nil, zsl_rf, zsl_r, zsl_i, zsl_j, zsl_f, zsl_d]) (fun x hE => by simp only [zla_nil, zla_rf, zla_r, zla_i, zla_j, zla_f, zla_d, Nat.reduceAdd]; exact sm_J1_headMap hE this a1)
theorem sm_J2_init__J40 {x : ZX Unit} {K : ZK} (hE : zE x K cJ2_init RJ2 "<init>" 1 1 100 encV none []) (this : Nat) : zS x 0 [(0, va_rf (some this))] [] (s_J2_init__J40 K this) := by
  unfold s_J2_init__J40
  refine zs_aload_n hE 0 rfl rfl dJ2_init_0 ?_
  refine zs_objInit hE q343 q169 q170 (by decide) (by first | decide | simp [zcat_rf, zcat_i, zcat_j, zcat_f, zcat_d]) dJ2_init_1 ?_
  exact zs_vret hE dJ2_init_4
theorem hd_J2_init__J40 : (yJ2_init).cls ≠ "java/lang/invoke/MethodHandle" ∧ (yJ2_init).cls ≠ "java/lang/invoke/VarHandle" ∧ (parseMethodDescriptor (yJ2_init).desc).map (fun d => d.parameters.length) = some 0 := by decide +kernel
theorem met_J2_init__J40 (K : ZK) (this : Nat) : zMeth K yJ2_init (zws yJ2_init cJ2_init 1 none) 1 100 [.ref this] encV (s_J2_init__J40 K this) :=
  fun l G hl hK => zmet_of hl hK (by decide +kernel) rfl rfl (by simp [zsl_nil, zsl_rf, zsl_r, zsl_i, zsl_j, zsl_f, zsl_d]) (fun x hE => by simp only [zla_nil, zla_rf, zla_r, zla_i, zla_j, zla_f, zla_d, Nat.reduceAdd]; exact sm_J2_init__J40 hE this)
theorem sm_J37_init__J40 {x : ZX Unit} {K : ZK} (hE : zE x K cJ37_init RJ37 "<init>" 1 2 120 encV none []) (this : Nat) : zS x 0 [(0, va_rf (some this))] [] (s_J37_init__J40 K this) := by
  unfold s_J37_init__J40
  refine zs_aload_n hE 0 rfl rfl dJ37_init_0 ?_
  refine zs_callI hE (As := []) (encA := encV) (met_J2_init__J40 K this) q342 q99 q1458 q341 rfl hd_J2_init__J40 (by decide) (by decide) rfl (by simp [zcat_rf, zcat_i, zcat_j, zcat_f, zcat_d]) (fun z hz => by cases hz) dJ37_init_1 (fun _ => ?_)
  show zS _ 4 _ [] _
  exact zs_vret hE dJ37_init_4
theorem hd_J37_init__J40 : (yJ37_init).cls ≠ "java/lang/invoke/MethodHandle" ∧ (yJ37_init).cls ≠ "java/lang/invoke/VarHandle" ∧ (parseMethodDescriptor (yJ37_init).desc).map (fun d => d.parameters.length) = some 0 := by decide +kernel
theorem met_J37_init__J40 (K : ZK) (this : Nat) : zMeth K yJ37_init (zws yJ37_init cJ37_init 1 none) 2 120 [.ref this] encV (s_J37_init__J40 K this) :=
  fun l G hl hK => zmet_of hl hK (by decide +kernel) rfl rfl (by simp [zsl_nil, zsl_rf, zsl_r, zsl_i, zsl_j, zsl_f, zsl_d]) (fun x hE => by simp only [zla_nil, zla_rf, zla_r, zla_i, zla_j, zla_f, zla_d, Nat.reduceAdd]; exact sm_J37_init__J40 hE this)
theorem sm_J39_init__J40 {x : ZX Unit} {K : ZK} (hE : zE x K cJ39_init RJ39 "<init>" 2 3 140 encV none []) (this : Nat) (a1 : Option Nat) : zS x 0 [(0, va_rf (some this)), (1, va_rf a1)] [] (s_J39_init__J40 K this a1) := by
  unfold s_J39_init__J40
  refine zs_aload_n hE 0 rfl rfl dJ39_init_0 ?_
  refine zs_aload_n hE 1 rfl rfl dJ39_init_1 ?_
  refine zs_putR hE (ci := 16) (k := 2) rfl (by decide) in_J40 (Or.inl q1462) (Or.inl rfl) (Or.inr ⟨rfl, rfl, rfl⟩) (fun _ => q1462) (tyJ40_ok 2 (by decide)) (Or.inl ⟨_, rfl⟩) dJ39_init_2 ?_
  refine zs_aload_n hE 0 rfl rfl dJ39_init_5 ?_
  refine zs_callI hE (As := []) (encA := encV) (met_J37_init__J40 K this) q1457 q143 q1455 q1456 rfl hd_J37_init__J40 (by decide) (by decide) rfl (by simp [zcat_rf, zcat_i, zcat_j, zcat_f, zcat_d]) (fun z hz => by cases hz) dJ39_init_6 (fun _ => ?_)
  show zS _ 9 _ [] _
  refine zs_aload_n hE 0 rfl rfl dJ39_init_9 ?_
  refine zs_iconst hE (v := (-1 : Int32)) (by decide) dJ39_init_10 ?_
  refine zs_putI hE (ci := 16) (k := 0) rfl (by decide) in_J40 (Or.inl q1460) (Or.inl rfl) (Or.inl rfl) (fun h => nomatch h) rfl dJ39_init_11 ?_
  exact zs_vret hE dJ39_init_14
theorem hd_J39_init__J40 : (yJ39_init).cls ≠ "java/lang/invoke/MethodHandle" ∧ (yJ39_init).cls ≠ "java/lang/invoke/VarHandle" ∧ (parseMethodDescriptor (yJ39_init).desc).map (fun d => d.parameters.length) = some 1 := by decide +kernel
theorem met_J39_init__J40 (K : ZK) (this : Nat) (a1 : Option Nat) : zMeth K yJ39_init (zws yJ39_init cJ39_init 2 none) 3 140 [.ref this, va_rf a1] encV (s_J39_init__J40 K this a1) :=
  fun l G hl hK => zmet_of hl hK (by decide +kernel) rfl rfl (by simp [zsl_nil, zsl_rf, zsl_r, zsl_i, zsl_j, zsl_f, zsl_d]) (fun x hE => by simp only [zla_nil, zla_rf, zla_r, zla_i, zla_j, zla_f, zla_d, Nat.reduceAdd]; exact sm_J39_init__J40 hE this a1)
theorem sm_J40_init {x : ZX Unit} {K : ZK} (hE : zE x K cJ40_init RJ40 "<init>" 2 4 161 encV none []) (this : Nat) (a1 : Option Nat) : zS x 0 [(0, va_rf (some this)), (1, va_rf a1)] [] (s_J40_init K this a1) := by
  unfold s_J40_init
  refine zs_aload_n hE 0 rfl rfl dJ40_init_0 ?_
  refine zs_aload_n hE 1 rfl rfl dJ40_init_1 ?_
  refine zs_putR hE (ci := 16) (k := 3) rfl (by decide) in_J40 (Or.inl q1459) (Or.inl rfl) (Or.inr ⟨rfl, rfl, rfl⟩) (fun _ => q1459) (tyJ40_ok 3 (by decide)) (Or.inl ⟨_, rfl⟩) dJ40_init_2 ?_
  refine zs_aload_n hE 0 rfl rfl dJ40_init_5 ?_
  refine zs_aload_n hE 1 rfl rfl dJ40_init_6 ?_
  refine zs_callI hE (As := [va_rf a1]) (encA := encV) (met_J39_init__J40 K this a1) q1454 q145 q1452 q1453 rfl hd_J39_init__J40 (by decide) (by decide) rfl (by simp [zcat_rf, zcat_i, zcat_j, zcat_f, zcat_d]) (fun z hz => by cases hz) dJ40_init_7 (fun _ => ?_)
  show zS _ 10 _ [] _
  exact zs_vret hE dJ40_init_10
theorem hd_J40_init : (yJ40_init).cls ≠ "java/lang/invoke/MethodHandle" ∧ (yJ40_init).cls ≠ "java/lang/invoke/VarHandle" ∧ (parseMethodDescriptor (yJ40_init).desc).map (fun d => d.parameters.length) = some 1 := by decide +kernel
theorem met_J40_init (K : ZK) (this : Nat) (a1 : Option Nat) : zMeth K yJ40_init (zws yJ40_init cJ40_init 2 none) 4 161 [.ref this, va_rf a1] encV (s_J40_init K this a1) :=
  fun l G hl hK => zmet_of hl hK (by decide +kernel) rfl rfl (by simp [zsl_nil, zsl_rf, zsl_r, zsl_i, zsl_j, zsl_f, zsl_d]) (fun x hE => by simp only [zla_nil, zla_rf, zla_r, zla_i, zla_j, zla_f, zla_d, Nat.reduceAdd]; exact sm_J40_init hE this a1)
theorem sm_J43_entrySet {x : ZX (Option Nat)} {K : ZK} (hE : zE x K cJ43_entrySet RJ43 "entrySet" 2 5 182 encR (Option.some (Jvm.ClassFile.FieldType.object "java/util/Set")) []) (this : Nat) : zS x 0 [(0, va_rf (some this))] [] (s_J43_entrySet K this) := by
  unfold s_J43_entrySet
  refine zs_aload_n hE 0 rfl rfl dJ43_entrySet_0 ?_
  refine zs_getR hE (ci := 18) (k := 8) rfl (by decide) in_J43 (Or.inl q2315) (Or.inr q2316) dJ43_entrySet_1 (fun v1 => ?_)
  refine zs_astore_n hE (i := 1) (q := 1) rfl (by decide) (zcat_rf (some this)) (lv' := [(0, va_rf (some this))]) rfl dJ43_entrySet_4 ?_
  refine zs_aload_n hE 0 rfl rfl dJ43_entrySet_5 ?_
  refine zs_ifnull hE 13 (by decide) dJ43_entrySet_6 ?_ ?_
  · refine zs_aload_n hE 1 rfl rfl dJ43_entrySet_13 ?_
    refine zs_new hE (ci := 16) (fs := [.int 0, .int 0, .null, .null]) rfl in_J40 tyJ40 tyJ40_ok q1447 q1448 q146 (fun j hj => by rcases (show j = 0 ∨ j = 1 ∨ j = 2 ∨ j = 3 by omega) with rfl | rfl | rfl | rfl <;> rfl) dJ43_entrySet_14 (fun q2 => ?_)
    refine zs_dup hE (zcat_rf _) dJ43_entrySet_17 ?_
    refine zs_aload_n hE 1 rfl rfl dJ43_entrySet_18 ?_
    refine zs_callI hE (As := [va_rf (some this)]) (encA := encV) (met_J40_init K q2 (some this)) q1451 q146 q1449 q1450 rfl hd_J40_init (by decide) (by decide) rfl (by simp [zcat_rf, zcat_i, zcat_j, zcat_f, zcat_d]) (fun z hz => by cases hz) dJ43_entrySet_19 (fun _ => ?_)
    show zS _ 22 _ [va_rf (some q2), va_rf (some this)] _
    refine zs_dup_x1 hE (zcat_rf _) (zcat_rf _) dJ43_entrySet_22 ?_
    refine zs_putR hE (ci := 18) (k := 8) rfl (by decide) in_J43 (Or.inl q2315) (Or.inr q2316) (Or.inl rfl) (fun h => nomatch h) (tyJ43_ok 8 (by decide)) (Or.inl ⟨_, rfl⟩) dJ43_entrySet_23 ?_
    exact zs_aret hE (Or.inl ⟨_, rfl⟩) dJ43_entrySet_26
  · refine zs_aload_n hE 0 rfl rfl dJ43_entrySet_9 ?_
    refine zs_goto hE 26 (by decide) dJ43_entrySet_10 ?_
    exact zs_aret hE (Or.inl ⟨_, rfl⟩) dJ43_entrySet_26
theorem hd_J43_entrySet : (yJ43_entrySet).cls ≠ "java/lang/invoke/MethodHandle" ∧ (yJ43_entrySet).cls ≠ "java/lang/invoke/VarHandle" ∧ (parseMethodDescriptor (yJ43_entrySet).desc).map (fun d => d.parameters.length) = some 0 := by decide +kernel
theorem met_J43_entrySet (K : ZK) (this : Nat) : zMeth K yJ43_entrySet (zws yJ43_entrySet cJ43_entrySet 2 (Option.some (Jvm.ClassFile.FieldType.object "java/util/Set"))) 5 182 [.ref this] encR (s_J43_entrySet K this) :=
  fun l G hl hK => zmet_of hl hK (by decide +kernel) rfl rfl (by simp [zsl_nil, zsl_rf, zsl_r, zsl_i, zsl_j, zsl_f, zsl_d]) (fun x hE => by simp only [zla_nil, zla_rf, zla_r, zla_i, zla_j, zla_f, zla_d, Nat.reduceAdd]; exact sm_J43_entrySet hE this)
theorem sm_J42_tooHigh__J43 {x : ZX Int32} {K : ZK} (hE : zE x K cJ42_tooHigh RJ42 "tooHigh" 3 5 185 encI (Option.some Jvm.ClassFile.FieldType.boolean) []) (this : Nat) (a1 : Option Nat) : zS x 0 [(0, va_rf (some this)), (1, va_rf a1)] [] (s_J42_tooHigh__J43 K this a1) := by
  unfold s_J42_tooHigh__J43
  refine zs_aload_n hE 0 rfl rfl dJ42_tooHigh_0 ?_
  refine zs_getI hE (ci := 18) (k := 4) rfl (by decide) in_J43 (Or.inl q2311) (Or.inl rfl) dJ42_tooHigh_1 (fun v1 => ?_)
  refine zs_if_ne hE 37 (by decide) dJ42_tooHigh_4 ?_ ?_
  · refine zs_aload_n hE 0 rfl rfl dJ42_tooHigh_7 ?_
    refine zs_getR hE (ci := 18) (k := 0) rfl (by decide) in_J43 (Or.inl q2305) (Or.inl rfl) dJ42_tooHigh_8 (fun v2 => ?_)
    refine zs_aload_n hE 1 rfl rfl dJ42_tooHigh_11 ?_
    refine zs_aload_n hE 0 rfl rfl dJ42_tooHigh_12 ?_
    refine zs_getR hE (ci := 18) (k := 2) rfl (by decide) in_J43 (Or.inl q2308) (Or.inl rfl) dJ42_tooHigh_13 (fun v3 => ?_)
    refine zs_callV hE (As := [va_rf a1, va_rf v3]) (encA := encI) (ci := 0) rfl (fun y0 => met_J1_compare K y0 a1 v3) q524 q98 q765 q522 (zq q523) hd_J1_compare (by decide) (by decide) rfl (by simp [zcat_rf, zcat_i, zcat_j, zcat_f, zcat_d]) (fun z hz => by cases hz) dJ42_tooHigh_16 (fun r4 => ?_)
    show zS _ 19 _ [.int r4] _
    refine zs_istore_n hE (i := 2) (q := 2) rfl (by decide) (zcat_rf a1) (lv' := [(0, va_rf (some this)), (1, va_rf a1)]) rfl dJ42_tooHigh_19 ?_
    refine zs_iload_n hE 0 rfl rfl dJ42_tooHigh_20 ?_
    refine zs_if_gt hE 35 (by decide) dJ42_tooHigh_21 ?_ ?_
    · refine zs_iconst hE (v := (1 : Int32)) (by decide) dJ42_tooHigh_35 ?_
      exact zs_zret hE rfl dJ42_tooHigh_36
    · refine zs_iload_n hE 0 rfl rfl dJ42_tooHigh_24 ?_
      refine zs_if_ne hE 37 (by decide) dJ42_tooHigh_25 ?_ ?_
      · refine zs_aload_n hE 1 rfl rfl dJ42_tooHigh_28 ?_
        refine zs_getI hE (ci := 18) (k := 6) rfl (by decide) in_J43 (Or.inl q2314) (Or.inl rfl) dJ42_tooHigh_29 (fun v5 => ?_)
        refine zs_if_ne hE 37 (by decide) dJ42_tooHigh_32 ?_ ?_
        · refine zs_iconst hE (v := (1 : Int32)) (by decide) dJ42_tooHigh_35 ?_
          exact zs_zret hE rfl dJ42_tooHigh_36
        · refine zs_iconst hE (v := (0 : Int32)) (by decide) dJ42_tooHigh_37 ?_
          exact zs_zret hE rfl dJ42_tooHigh_38
      · refine zs_iconst hE (v := (0 : Int32)) (by decide) dJ42_tooHigh_37 ?_
        exact zs_zret hE rfl dJ42_tooHigh_38
  · refine zs_iconst hE (v := (0 : Int32)) (by decide) dJ42_tooHigh_37 ?_
    exact zs_zret hE rfl dJ42_tooHigh_38
theorem hd_J42_tooHigh__J43 : (yJ42_tooHigh).cls ≠ "java/lang/invoke/MethodHandle" ∧ (yJ42_tooHigh).cls ≠ "java/lang/invoke/VarHandle" ∧ (parseMethodDescriptor (yJ42_tooHigh).desc).map (fun d => d.parameters.length) = some 1 := by decide +kernel
theorem met_J42_tooHigh__J43 (K : ZK) (this : Nat) (a1 : Option Nat) : zMeth K yJ42_tooHigh (zws yJ42_tooHigh cJ42_tooHigh 3 (Option.some Jvm.ClassFile.FieldType.boolean)) 5 185 [.ref this, va_rf a1] encI (s_J42_tooHigh__J43 K this a1) :=
  fun l G hl hK => zmet_of hl hK (by decide +kernel) rfl rfl (by simp [zsl_nil, zsl_rf, zsl_r, zsl_i, zsl_j, zsl_f, zsl_d]) (fun x hE => by simp only [zla_nil, zla_rf, zla_r, zla_i, zla_j, zla_f, zla_d, Nat.reduceAdd]; exact sm_J42_tooHigh__J43 hE this a1)
theorem sm_J1_getCeilingEntry_B68 {x : ZX (Option Nat)} {K : ZK} (hE : zE x K cJ1_getCeilingEntry RJ1 "getCeilingEntry" 6 5 185 encR (Option.some (Jvm.ClassFile.FieldType.object "java/util/TreeMap$Entry")) []) (self68 : (Option Nat × Option Nat) → ZP (Option Nat)) (hs68 : ∀ v : Option Nat × Option Nat, zS x 68 [(4, va_rf v.1), (5, va_rf v.2)] [] (self68 v)) (x4 : Option Nat) (x5 : Option Nat) : zS x 68 [(4, va_rf x4), (5, va_rf x5)] [] (s_J1_getCeilingEntry_B68 K self68 x4 x5) := by
  unfold s_J1_getCeilingEntry_B68
  refine zs_aload hE 0 rfl dJ1_getCeilingEntry_68 ?_
  refine zs_ifnull hE 97 (by decide) dJ1_getCeilingEntry_70 ?_ ?_
  · refine zs_aload hE 0 rfl dJ1_getCeilingEntry_97 ?_
    exact zs_aret hE (Or.inl ⟨_, rfl⟩) dJ1_getCeilingEntry_99
  · refine zs_aload hE 1 rfl dJ1_getCeilingEntry_73 ?_
    refine zs_aload hE 0 rfl dJ1_getCeilingEntry_75 ?_
    refine zs_getR hE (ci := 12) (k := 3) rfl (by decide) in_J33 (Or.inl q1677) (Or.inl rfl) dJ1_getCeilingEntry_77 (fun v6 => ?_)
    refine zs_acmp_ne hE 97 (by decide) dJ1_getCeilingEntry_80 ?_ ?_
    · refine zs_aload hE 0 rfl dJ1_getCeilingEntry_83 ?_
      refine zs_astore hE (i := 5) (by decide) (zcat_rf x4) (lv' := [(4, va_rf x4)]) rfl dJ1_getCeilingEntry_85 ?_
      refine zs_aload hE 1 rfl dJ1_getCeilingEntry_87 ?_
      refine zs_getR hE (ci := 12) (k := 4) rfl (by decide) in_J33 (Or.inl q1679) (Or.inl rfl) dJ1_getCeilingEntry_89 (fun v7 => ?_)
      refine zs_astore hE (i := 4) (by decide) (trivial) (lv' := [(5, va_rf x4)]) rfl dJ1_getCeilingEntry_92 ?_
      refine zs_goto hE 68 (by decide) dJ1_getCeilingEntry_94 ?_
      exact hs68 (v7, x4)
    · refine zs_aload hE 0 rfl dJ1_getCeilingEntry_97 ?_
      exact zs_aret hE (Or.inl ⟨_, rfl⟩) dJ1_getCeilingEntry_99
theorem sm_J1_getCeilingEntry_L68 {x : ZX (Option Nat)} {K : ZK} (hE : zE x K cJ1_getCeilingEntry RJ1 "getCeilingEntry" 6 5 185 encR (Option.some (Jvm.ClassFile.FieldType.object "java/util/TreeMap$Entry")) []) (v : Option Nat × Option Nat) : zS x 68 [(4, va_rf v.1), (5, va_rf v.2)] [] (s_J1_getCeilingEntry_L68 K v) := by
  unfold s_J1_getCeilingEntry_L68
  exact zs_loop (lvf := fun v => [(4, va_rf v.1), (5, va_rf v.2)]) (fun self68 hs68 v => sm_J1_getCeilingEntry_B68 hE self68 hs68 v.1 v.2) v
theorem sm_J1_getCeilingEntry_B5 {x : ZX (Option Nat)} {K : ZK} (hE : zE x K cJ1_getCeilingEntry RJ1 "getCeilingEntry" 6 5 185 encR (Option.some (Jvm.ClassFile.FieldType.object "java/util/TreeMap$Entry")) []) (x0 : Nat) (x1 : Option Nat) (self5 : (Option Nat) → ZP (Option Nat)) (hs5 : ∀ v : Option Nat, zS x 5 [(0, va_rf (some x0)), (1, va_rf x1), (2, va_rf v)] [] (self5 v)) (x2 : Option Nat) : zS x 5 [(0, va_rf (some x0)), (1, va_rf x1), (2, va_rf x2)] [] (s_J1_getCeilingEntry_B5 K x0 x1 self5 x2) := by
  unfold s_J1_getCeilingEntry_B5
  refine zs_aload_n hE 2 rfl rfl dJ1_getCeilingEntry_5 ?_
  refine zs_ifnull hE 105 (by decide) dJ1_getCeilingEntry_6 ?_ ?_
  · refine zs_null hE dJ1_getCeilingEntry_105 ?_
    exact zs_aret hE (Or.inl ⟨_, rfl⟩) dJ1_getCeilingEntry_106
  · refine zs_aload_n hE 0 rfl rfl dJ1_getCeilingEntry_9 ?_
    refine zs_aload_n hE 1 rfl rfl dJ1_getCeilingEntry_10 ?_
    refine zs_aload_n hE 2 rfl rfl dJ1_getCeilingEntry_11 ?_
    refine zs_getR hE (ci := 12) (k := 0) rfl (by decide) in_J33 (Or.inl q1672) (Or.inl rfl) dJ1_getCeilingEntry_12 (fun v2 => ?_)
    refine zs_callV hE (As := [va_rf x1, va_rf v2]) (encA := encI) (ci := 0) rfl (fun y0 => met_J1_compare K y0 x1 v2) q524 q98 q521 q522 (zq q523) hd_J1_compare (by decide) (by decide) rfl (by simp [zcat_rf, zcat_i, zcat_j, zcat_f, zcat_d]) (fun z hz => by cases hz) dJ1_getCeilingEntry_15 (fun r3 => ?_)
    show zS _ 18 _ [.int r3] _
    refine zs_istore_n hE (i := 3) (q := 3) rfl (by decide) (zcat_rf x2) (lv' := [(0, va_rf (some x0)), (1, va_rf x1), (2, va_rf x2)]) rfl dJ1_getCeilingEntry_18 ?_
    refine zs_iload_n hE 0 rfl rfl dJ1_getCeilingEntry_19 ?_
    refine zs_if_ge hE 40 (by decide) dJ1_getCeilingEntry_20 ?_ ?_
    · refine zs_iload_n hE 0 rfl rfl dJ1_getCeilingEntry_40 ?_
      refine zs_if_le hE 100 (by decide) dJ1_getCeilingEntry_41 ?_ ?_
      · refine zs_aload_n hE 3 rfl rfl dJ1_getCeilingEntry_100 ?_
        exact zs_aret hE (Or.inl ⟨_, rfl⟩) dJ1_getCeilingEntry_101
      · refine zs_aload_n hE 3 rfl rfl dJ1_getCeilingEntry_44 ?_
        refine zs_getR hE (ci := 12) (k := 3) rfl (by decide) in_J33 (Or.inl q1677) (Or.inl rfl) dJ1_getCeilingEntry_45 (fun v4 => ?_)
        refine zs_ifnull hE 59 (by decide) dJ1_getCeilingEntry_48 ?_ ?_
        · refine zs_aload_n hE 3 rfl rfl dJ1_getCeilingEntry_59 ?_
          refine zs_getR hE (ci := 12) (k := 4) rfl (by decide) in_J33 (Or.inl q1679) (Or.inl rfl) dJ1_getCeilingEntry_60 (fun v5 => ?_)
          refine zs_astore hE (i := 4) (by decide) (rfl) (lv' := [(3, .int r3), (0, va_rf (some x0)), (1, va_rf x1), (2, va_rf x2)]) rfl dJ1_getCeilingEntry_63 ?_
          refine zs_aload_n hE 4 rfl rfl dJ1_getCeilingEntry_65 ?_
          refine zs_astore hE (i := 5) (by decide) (zcat_rf v5) (lv' := [(4, va_rf v5), (3, .int r3), (0, va_rf (some x0)), (1, va_rf x1), (2, va_rf x2)]) rfl dJ1_getCeilingEntry_66 ?_
          refine zs_sub [1, 0] rfl ?_
          exact sm_J1_getCeilingEntry_L68 hE (v5, x2)
        · refine zs_aload_n hE 3 rfl rfl dJ1_getCeilingEntry_51 ?_
          refine zs_getR hE (ci := 12) (k := 3) rfl (by decide) in_J33 (Or.inl q1677) (Or.inl rfl) dJ1_getCeilingEntry_52 (fun v8 => ?_)
          refine zs_astore_n hE (i := 2) (q := 2) rfl (by decide) (zcat_rf x1) (lv' := [(3, .int r3), (0, va_rf (some x0)), (1, va_rf x1)]) rfl dJ1_getCeilingEntry_55 ?_
          refine zs_goto hE 102 (by decide) dJ1_getCeilingEntry_56 ?_
          refine zs_goto hE 5 (by decide) dJ1_getCeilingEntry_102 ?_
          refine zs_sub [2, 3, 0] rfl ?_
          exact hs5 v8
    · refine zs_aload_n hE 3 rfl rfl dJ1_getCeilingEntry_23 ?_
      refine zs_getR hE (ci := 12) (k := 2) rfl (by decide) in_J33 (Or.inl q1676) (Or.inl rfl) dJ1_getCeilingEntry_24 (fun v9 => ?_)
      refine zs_ifnull hE 38 (by decide) dJ1_getCeilingEntry_27 ?_ ?_
      · refine zs_aload_n hE 3 rfl rfl dJ1_getCeilingEntry_38 ?_
        exact zs_aret hE (Or.inl ⟨_, rfl⟩) dJ1_getCeilingEntry_39
      · refine zs_aload_n hE 3 rfl rfl dJ1_getCeilingEntry_30 ?_
        refine zs_getR hE (ci := 12) (k := 2) rfl (by decide) in_J33 (Or.inl q1676) (Or.inl rfl) dJ1_getCeilingEntry_31 (fun v10 => ?_)
        refine zs_astore_n hE (i := 2) (q := 2) rfl (by decide) (zcat_rf x1) (lv' := [(3, .int r3), (0, va_rf (some x0)), (1, va_rf x1)]) rfl dJ1_getCeilingEntry_34 ?_
        refine zs_goto hE 102 (by decide) dJ1_getCeilingEntry_35 ?_
        refine zs_goto hE 5 (by decide) dJ1_getCeilingEntry_102 ?_
        refine zs_sub [2, 3, 0] rfl ?_
        exact hs5 v10
theorem sm_J1_getCeilingEntry_L5 {x : ZX (Option Nat)} {K : ZK} (hE : zE x K cJ1_getCeilingEntry RJ1 "getCeilingEntry" 6 5 185 encR (Option.some (Jvm.ClassFile.FieldType.object "java/util/TreeMap$Entry")) []) (x0 : Nat) (x1 : Option Nat) (v : Option Nat) : zS x 5 [(0, va_rf (some x0)), (1, va_rf x1), (2, va_rf v)] [] (s_J1_getCeilingEntry_L5 K x0 x1 v) := by
  unfold s_J1_getCeilingEntry_L5
  exact zs_loop (lvf := fun v => [(0, va_rf (some x0)), (1, va_rf x1), (2, va_rf v)]) (fun self5 hs5 v => sm_J1_getCeilingEntry_B5 hE x0 x1 self5 hs5 v) v
theorem sm_J1_getCeilingEntry {x : ZX (Option Nat)} {K : ZK} (hE : zE x K cJ1_getCeilingEntry RJ1 "getCeilingEntry" 6 5 185 encR (Option.some (Jvm.ClassFile.FieldType.object "java/util/TreeMap$Entry")) []) (this : Nat) (a1 : Option Nat) : zS x 0 [(0, va_rf (some this)), (1, va_rf a1)] [] (s_J1_getCeilingEntry K this a1) := by
  unfold s_J1_getCeilingEntry
  refine zs_aload_n hE 0 rfl rfl dJ1_getCeilingEntry_0 ?_
  refine zs_getR hE (ci := 0) (k := 3) rfl (by decide) in_J1 (Or.inl q187) (Or.inl rfl) dJ1_getCeilingEntry_1 (fun v1 => ?_)
  refine zs_astore_n hE (i := 2) (q := 2) rfl (by decide) (zcat_rf a1) (lv' := [(0, va_rf (some this)), (1, va_rf a1)]) rfl dJ1_getCeilingEntry_4 ?_
  refine zs_sub [1, 2, 0] rfl ?_
  exact sm_J1_getCeilingEntry_L5 hE this a1 v1
theorem hd_J1_getCeilingEntry : (yJ1_getCeilingEntry).cls ≠ "java/lang/invoke/MethodHandle" ∧ (yJ1_getCeilingEntry).cls ≠ "java/lang/invoke/VarHandle" ∧ (parseMethodDescriptor (yJ1_getCeilingEntry).desc).map (fun d => d.parameters.length) = some 1 := by decide +kernel
theorem met_J1_getCeilingEntry (K : ZK) (this : Nat) (a1 : Option Nat) : zMeth K yJ1_getCeilingEntry (zws yJ1_getCeilingEntry cJ1_getCeilingEntry 6 (Option.some (Jvm.ClassFile.FieldType.object "java/util/TreeMap$Entry"))) 5 185 [.ref this, va_rf a1] encR (s_J1_getCeilingEntry K this a1) :=
  fun l G hl hK => zmet_of hl hK (by decide +kernel) rfl rfl (by simp [zsl_nil, zsl_rf, zsl_r, zsl_i, zsl_j, zsl_f, zsl_d]) (fun x hE => by simp only [zla_nil, zla_rf, zla_r, zla_i, zla_j, zla_f, zla_d, Nat.reduceAdd]; exact sm_J1_getCeilingEntry hE this a1)
theorem sm_J42_absLowest__J43_J49 {x : ZX (Option Nat)} {K : ZK} (hE : zE x K cJ42_absLowest RJ42 "absLowest" 2 6 210 encR (Option.some (Jvm.ClassFile.FieldType.object "java/util/TreeMap$Entry")) []) (x0 : Nat) (t0 : Option Nat) : zS x 49 [(0, va_rf (some x0))] [va_rf t0] (s_J42_absLowest__J43_J49 K x0 t0) := by
  unfold s_J42_absLowest__J43_J49
  refine zs_astore_n hE (i := 1) (q := 1) rfl (by decide) (zcat_rf (some x0)) (lv' := [(0, va_rf (some x0))]) rfl dJ42_absLowest_49 ?_
  refine zs_aload_n hE 0 rfl rfl dJ42_absLowest_50 ?_
  refine zs_ifnull hE 65 (by decide) dJ42_absLowest_51 ?_ ?_
  · refine zs_null hE dJ42_absLowest_65 ?_
    refine zs_goto hE 70 (by decide) dJ42_absLowest_66 ?_
    exact zs_aret hE (Or.inl ⟨_, rfl⟩) dJ42_absLowest_70
  · refine zs_aload_n hE 1 rfl rfl dJ42_absLowest_54 ?_
    refine zs_aload_n hE 0 rfl rfl dJ42_absLowest_55 ?_
    refine zs_getR hE (ci := 12) (k := 0) rfl (by decide) in_J33 (Or.inl q1671) (Or.inl rfl) dJ42_absLowest_56 (fun v6 => ?_)
    refine zs_callV hE (As := [va_rf v6]) (encA := encI) (ci := 18) rfl (fun y0 => met_J42_tooHigh__J43 K y0 v6) q764 q150 q760 q761 (zq q763) hd_J42_tooHigh__J43 (by decide) (by decide) rfl (by simp [zcat_rf, zcat_i, zcat_j, zcat_f, zcat_d]) (fun z hz => by cases hz) dJ42_absLowest_59 (fun r7 => ?_)
    show zS _ 62 _ [.int r7] _
    refine zs_if_eq hE 69 (by decide) dJ42_absLowest_62 ?_ ?_
    · refine zs_aload_n hE 0 rfl rfl dJ42_absLowest_69 ?_
      exact zs_aret hE (Or.inl ⟨_, rfl⟩) dJ42_absLowest_70
    · refine zs_null hE dJ42_absLowest_65 ?_
      refine zs_goto hE 70 (by decide) dJ42_absLowest_66 ?_
      exact zs_aret hE (Or.inl ⟨_, rfl⟩) dJ42_absLowest_70
theorem sm_J42_absLowest__J43 {x : ZX (Option Nat)} {K : ZK} (hE : zE x K cJ42_absLowest RJ42 "absLowest" 2 6 210 encR (Option.some (Jvm.ClassFile.FieldType.object "java/util/TreeMap$Entry")) []) (this : Nat) : zS x 0 [(0, va_rf (some this))] [] (s_J42_absLowest__J43 K this) := by
  unfold s_J42_absLowest__J43
  refine zs_aload_n hE 0 rfl rfl dJ42_absLowest_0 ?_
  refine zs_getI hE (ci := 18) (k := 3) rfl (by decide) in_J43 (Or.inl q2309) (Or.inl rfl) dJ42_absLowest_1 (fun v1 => ?_)
  refine zs_if_eq hE 17 (by decide) dJ42_absLowest_4 ?_ ?_
  · refine zs_aload_n hE 0 rfl rfl dJ42_absLowest_17 ?_
    refine zs_getI hE (ci := 18) (k := 5) rfl (by decide) in_J43 (Or.inl q2313) (Or.inl rfl) dJ42_absLowest_18 (fun v2 => ?_)
    refine zs_if_eq hE 38 (by decide) dJ42_absLowest_21 ?_ ?_
    · refine zs_aload_n hE 0 rfl rfl dJ42_absLowest_38 ?_
      refine zs_getR hE (ci := 18) (k := 0) rfl (by decide) in_J43 (Or.inl q2305) (Or.inl rfl) dJ42_absLowest_39 (fun v3 => ?_)
      refine zs_aload_n hE 0 rfl rfl dJ42_absLowest_42 ?_
      refine zs_getR hE (ci := 18) (k := 1) rfl (by decide) in_J43 (Or.inl q2307) (Or.inl rfl) dJ42_absLowest_43 (fun v4 => ?_)
      refine zs_callV hE (As := [va_rf v4]) (encA := encR) (ci := 0) rfl (fun y0 => met_J1_getHigherEntry K y0 v4) q759 q98 q756 q757 (zq q758) hd_J1_getHigherEntry (by decide) (by decide) rfl (by simp [zcat_rf, zcat_i, zcat_j, zcat_f, zcat_d]) (fun z hz => by cases hz) dJ42_absLowest_46 (fun r5 => ?_)
      show zS _ 49 _ [va_rf r5] _
      exact sm_J42_absLowest__J43_J49 hE this r5
    · refine zs_aload_n hE 0 rfl rfl dJ42_absLowest_24 ?_
      refine zs_getR hE (ci := 18) (k := 0) rfl (by decide) in_J43 (Or.inl q2305) (Or.inl rfl) dJ42_absLowest_25 (fun v8 => ?_)
      refine zs_aload_n hE 0 rfl rfl dJ42_absLowest_28 ?_
      refine zs_getR hE (ci := 18) (k := 1) rfl (by decide) in_J43 (Or.inl q2307) (Or.inl rfl) dJ42_absLowest_29 (fun v9 => ?_)
      refine zs_callV hE (As := [va_rf v9]) (encA := encR) (ci := 0) rfl (fun y0 => met_J1_getCeilingEntry K y0 v9) q520 q98 q517 q518 (zq q519) hd_J1_getCeilingEntry (by decide) (by decide) rfl (by simp [zcat_rf, zcat_i, zcat_j, zcat_f, zcat_d]) (fun z hz => by cases hz) dJ42_absLowest_32 (fun r10 => ?_)
      show zS _ 35 _ [va_rf r10] _
      refine zs_goto hE 49 (by decide) dJ42_absLowest_35 ?_
      exact sm_J42_absLowest__J43_J49 hE this r10
  · refine zs_aload_n hE 0 rfl rfl dJ42_absLowest_7 ?_
    refine zs_getR hE (ci := 18) (k := 0) rfl (by decide) in_J43 (Or.inl q2305) (Or.inl rfl) dJ42_absLowest_8 (fun v11 => ?_)
    refine zs_callV hE (As := []) (encA := encR) (ci := 0) rfl (fun y0 => met_J1_getFirstEntry K y0) q516 q98 q513 q514 (zq q515) hd_J1_getFirstEntry (by decide) (by decide) rfl (by simp [zcat_rf, zcat_i, zcat_j, zcat_f, zcat_d]) (fun z hz => by cases hz) dJ42_absLowest_11 (fun r12 => ?_)
    show zS _ 14 _ [va_rf r12] _
    refine zs_goto hE 49 (by decide) dJ42_absLowest_14 ?_
    exact sm_J42_absLowest__J43_J49 hE this r12
theorem hd_J42_absLowest__J43 : (yJ42_absLowest).cls ≠ "java/lang/invoke/MethodHandle" ∧ (yJ42_absLowest).cls ≠ "java/lang/invoke/VarHandle" ∧ (parseMethodDescriptor (yJ42_absLowest).desc).map (fun d => d.parameters.length) = some 0 := by decide +kernel
theorem met_J42_absLowest__J43 (K : ZK) (this : Nat) : zMeth K yJ42_absLowest (zws yJ42_absLowest cJ42_absLowest 2 (Option.some (Jvm.ClassFile.FieldType.object "java/util/TreeMap$Entry"))) 6 210 [.ref this] encR (s_J42_absLowest__J43 K this) :=
  fun l G hl hK => zmet_of hl hK (by decide +kernel) rfl rfl (by simp [zsl_nil, zsl_rf, zsl_r, zsl_i, zsl_j, zsl_f, zsl_d]) (fun x hE => by simp only [zla_nil, zla_rf, zla_r, zla_i, zla_j, zla_f, zla_d, Nat.reduceAdd]; exact sm_J42_absLowest__J43 hE this)
theorem sm_J42_absHighFence__J43 {x : ZX (Option Nat)} {K : ZK} (hE : zE x K cJ42_absHighFence RJ42 "absHighFence" 1 6 210 encR (Option.some (Jvm.ClassFile.FieldType.object "java/util/TreeMap$Entry")) []) (this : Nat) : zS x 0 [(0, va_rf (some this))] [] (s_J42_absHighFence__J43 K this) := by
  unfold s_J42_absHighFence__J43
  refine zs_aload_n hE 0 rfl rfl dJ42_absHighFence_0 ?_
  refine zs_getI hE (ci := 18) (k := 4) rfl (by decide) in_J43 (Or.inl q2311) (Or.inl rfl) dJ42_absHighFence_1 (fun v1 => ?_)
  refine zs_if_eq hE 11 (by decide) dJ42_absHighFence_4 ?_ ?_
  · refine zs_aload_n hE 0 rfl rfl dJ42_absHighFence_11 ?_
    refine zs_getI hE (ci := 18) (k := 6) rfl (by decide) in_J43 (Or.inl q2314) (Or.inl rfl) dJ42_absHighFence_12 (fun v2 => ?_)
    refine zs_if_eq hE 32 (by decide) dJ42_absHighFence_15 ?_ ?_
    · refine zs_aload_n hE 0 rfl rfl dJ42_absHighFence_32 ?_
      refine zs_getR hE (ci := 18) (k := 0) rfl (by decide) in_J43 (Or.inl q2305) (Or.inl rfl) dJ42_absHighFence_33 (fun v3 => ?_)
      refine zs_aload_n hE 0 rfl rfl dJ42_absHighFence_36 ?_
      refine zs_getR hE (ci := 18) (k := 2) rfl (by decide) in_J43 (Or.inl q2308) (Or.inl rfl) dJ42_absHighFence_37 (fun v4 => ?_)
      refine zs_callV hE (As := [va_rf v4]) (encA := encR) (ci := 0) rfl (fun y0 => met_J1_getCeilingEntry K y0 v4) q520 q98 q517 q518 (zq q519) hd_J1_getCeilingEntry (by decide) (by decide) rfl (by simp [zcat_rf, zcat_i, zcat_j, zcat_f, zcat_d]) (fun z hz => by cases hz) dJ42_absHighFence_40 (fun r5 => ?_)
      show zS _ 43 _ [va_rf r5] _
      exact zs_aret hE (Or.inl ⟨_, rfl⟩) dJ42_absHighFence_43
    · refine zs_aload_n hE 0 rfl rfl dJ42_absHighFence_18 ?_
      refine zs_getR hE (ci := 18) (k := 0) rfl (by decide) in_J43 (Or.inl q2305) (Or.inl rfl) dJ42_absHighFence_19 (fun v6 => ?_)
      refine zs_aload_n hE 0 rfl rfl dJ42_absHighFence_22 ?_
      refine zs_getR hE (ci := 18) (k := 2) rfl (by decide) in_J43 (Or.inl q2308) (Or.inl rfl) dJ42_absHighFence_23 (fun v7 => ?_)
      refine zs_callV hE (As := [va_rf v7]) (encA := encR) (ci := 0) rfl (fun y0 => met_J1_getHigherEntry K y0 v7) q759 q98 q756 q757 (zq q758) hd_J1_getHigherEntry (by decide) (by decide) rfl (by simp [zcat_rf, zcat_i, zcat_j, zcat_f, zcat_d]) (fun z hz => by cases hz) dJ42_absHighFence_26 (fun r8 => ?_)
      show zS _ 29 _ [va_rf r8] _
      refine zs_goto hE 43 (by decide) dJ42_absHighFence_29 ?_
      exact zs_aret hE (Or.inl ⟨_, rfl⟩) dJ42_absHighFence_43
  · refine zs_null hE dJ42_absHighFence_7 ?_
    refine zs_goto hE 43 (by decide) dJ42_absHighFence_8 ?_
    exact zs_aret hE (Or.inl ⟨_, rfl⟩) dJ42_absHighFence_43
theorem hd_J42_absHighFence__J43 : (yJ42_absHighFence).cls ≠ "java/lang/invoke/MethodHandle" ∧ (yJ42_absHighFence).cls ≠ "java/lang/invoke/VarHandle" ∧ (parseMethodDescriptor (yJ42_absHighFence).desc).map (fun d => d.parameters.length) = some 0 := by decide +kernel
theorem met_J42_absHighFence__J43 (K : ZK) (this : Nat) : zMeth K yJ42_absHighFence (zws yJ42_absHighFence cJ42_absHighFence 1 (Option.some (Jvm.ClassFile.FieldType.object "java/util/TreeMap$Entry"))) 6 210 [.ref this] encR (s_J42_absHighFence__J43 K this) :=
  fun l G hl hK => zmet_of hl hK (by decide +kernel) rfl rfl (by simp [zsl_nil, zsl_rf, zsl_r, zsl_i, zsl_j, zsl_f, zsl_d]) (fun x hE => by simp only [zla_nil, zla_rf, zla_r, zla_i, zla_j, zla_f, zla_d, Nat.reduceAdd]; exact sm_J42_absHighFence__J43 hE this)
theorem sm_J24_init__J25_J45 {x : ZX Unit} {K : ZK} (hE : zE x K cJ24_init RJ24 "<init>" 4 1 100 encV none []) (t0 : Option Nat) (t1 : Nat) : zS x 45 [] [va_rf t0, va_rf (some t1)] (s_J24_init__J25_J45 K t0 t1) := by
  unfold s_J24_init__J25_J45
  refine zs_putR hE (ci := 6) (k := 2) rfl (by decide) in_J25 (Or.inl q783) (Or.inl rfl) (Or.inr ⟨rfl, rfl, rfl⟩) (fun _ => q783) (tyJ25_ok 2 (by decide)) (Or.inl ⟨_, rfl⟩) dJ24_init_45 ?_
  exact zs_vret hE dJ24_init_48
theorem sm_J24_init__J25 {x : ZX Unit} {K : ZK} (hE : zE x K cJ24_init RJ24 "<init>" 4 1 100 encV none []) (this : Nat) (a1 : Option Nat) (a2 : Option Nat) (a3 : Option Nat) : zS x 0 [(0, va_rf (some this)), (1, va_rf a1), (2, va_rf a2), (3, va_rf a3)] [] (s_J24_init__J25 K this a1 a2 a3) := by
  unfold s_J24_init__J25
  refine zs_aload_n hE 0 rfl rfl dJ24_init_0 ?_
  refine zs_aload_n hE 1 rfl rfl dJ24_init_1 ?_
  refine zs_putR hE (ci := 6) (k := 4) rfl (by decide) in_J25 (Or.inl q785) (Or.inl rfl) (Or.inr ⟨rfl, rfl, rfl⟩) (fun _ => q785) (tyJ25_ok 4 (by decide)) (Or.inl ⟨_, rfl⟩) dJ24_init_2 ?_
  refine zs_aload_n hE 0 rfl rfl dJ24_init_5 ?_
  refine zs_objInit hE q778 q169 q170 (by decide) (by first | decide | simp [zcat_rf, zcat_i, zcat_j, zcat_f, zcat_d]) dJ24_init_6 ?_
  refine zs_aload_n hE 0 rfl rfl dJ24_init_9 ?_
  refine zs_aload_n hE 1 rfl rfl dJ24_init_10 ?_
  refine zs_getR hE (ci := 18) (k := 0) rfl (by decide) in_J43 (Or.inl q2304) (Or.inl rfl) dJ24_init_11 (fun v1 => ?_)
  refine zs_getI hE (ci := 0) (k := 5) rfl (by decide) in_J1 (Or.inr ⟨_, zn q191 rfl⟩) (Or.inl rfl) dJ24_init_14 (fun v2 => ?_)
  refine zs_putI hE (ci := 6) (k := 3) rfl (by decide) in_J25 (Or.inl q784) (Or.inl rfl) (Or.inl rfl) (fun h => nomatch h) rfl dJ24_init_17 ?_
  refine zs_aload_n hE 0 rfl rfl dJ24_init_20 ?_
  refine zs_null hE dJ24_init_21 ?_
  refine zs_putR hE (ci := 6) (k := 0) rfl (by decide) in_J25 (Or.inl q781) (Or.inl rfl) (Or.inl rfl) (fun h => nomatch h) (tyJ25_ok 0 (by decide)) (Or.inl ⟨_, rfl⟩) dJ24_init_22 ?_
  refine zs_aload_n hE 0 rfl rfl dJ24_init_25 ?_
  refine zs_aload_n hE 2 rfl rfl dJ24_init_26 ?_
  refine zs_putR hE (ci := 6) (k := 1) rfl (by decide) in_J25 (Or.inl q782) (Or.inl rfl) (Or.inl rfl) (fun h => nomatch h) (tyJ25_ok 1 (by decide)) (Or.inl ⟨_, rfl⟩) dJ24_init_27 ?_
  refine zs_aload_n hE 0 rfl rfl dJ24_init_30 ?_
  refine zs_aload_n hE 3 rfl rfl dJ24_init_31 ?_
  refine zs_ifnonnull hE 41 (by decide) dJ24_init_32 ?_ ?_
  · refine zs_getsN hE (C := "java/util/TreeMap") (v := .ref (K.1 4)) (by simp [zST]) (zn q779 rfl) (Or.inl rfl) dJ24_init_35 ?_
    show zS _ 38 _ (va_rf (some (K.1 4)) :: _) _
    refine zs_goto hE 45 (by decide) dJ24_init_38 ?_
    refine zs_sub [] rfl ?_
    exact sm_J24_init__J25_J45 hE (some (K.1 4)) this
  · refine zs_aload_n hE 3 rfl rfl dJ24_init_41 ?_
    refine zs_getR hE (ci := 12) (k := 0) rfl (by decide) in_J33 (Or.inl q1670) (Or.inl rfl) dJ24_init_42 (fun v3 => ?_)
    refine zs_sub [] rfl ?_
    exact sm_J24_init__J25_J45 hE v3 this
theorem hd_J24_init__J25 : (yJ24_init).cls ≠ "java/lang/invoke/MethodHandle" ∧ (yJ24_init).cls ≠ "java/lang/invoke/VarHandle" ∧ (parseMethodDescriptor (yJ24_init).desc).map (fun d => d.parameters.length) = some 3 := by decide +kernel
theorem met_J24_init__J25 (K : ZK) (this : Nat) (a1 : Option Nat) (a2 : Option Nat) (a3 : Option Nat) : zMeth K yJ24_init (zws yJ24_init cJ24_init 4 none) 1 100 [.ref this, va_rf a1, va_rf a2, va_rf a3] encV (s_J24_init__J25 K this a1 a2 a3) :=
  fun l G hl hK => zmet_of hl hK (by decide +kernel) rfl rfl (by simp [zsl_nil, zsl_rf, zsl_r, zsl_i, zsl_j, zsl_f, zsl_d]) (fun x hE => by simp only [zla_nil, zla_rf, zla_r, zla_i, zla_j, zla_f, zla_d, Nat.reduceAdd]; exact sm_J24_init__J25 hE this a1 a2 a3)
theorem sm_J25_init {x : ZX Unit} {K : ZK} (hE : zE x K cJ25_init RJ25 "<init>" 4 2 123 encV none []) (this : Nat) (a1 : Option Nat) (a2 : Option Nat) (a3 : Option Nat) : zS x 0 [(0, va_rf (some this)), (1, va_rf a1), (2, va_rf a2), (3, va_rf a3)] [] (s_J25_init K this a1 a2 a3) := by
  unfold s_J25_init
  refine zs_aload_n hE 0 rfl rfl dJ25_init_0 ?_
  refine zs_aload_n hE 1 rfl rfl dJ25_init_1 ?_
  refine zs_aload_n hE 2 rfl rfl dJ25_init_2 ?_
  refine zs_aload_n hE 3 rfl rfl dJ25_init_3 ?_
  refine zs_callI hE (As := [va_rf a1, va_rf a2, va_rf a3]) (encA := encV) (met_J24_init__J25 K this a1 a2 a3) q777 q125 q775 q776 rfl hd_J24_init__J25 (by decide) (by decide) rfl (by simp [zcat_rf, zcat_i, zcat_j, zcat_f, zcat_d]) (fun z hz => by cases hz) dJ25_init_4 (fun _ => ?_)
  show zS _ 7 _ [] _
  exact zs_vret hE dJ25_init_7
theorem hd_J25_init : (yJ25_init).cls ≠ "java/lang/invoke/MethodHandle" ∧ (yJ25_init).cls ≠ "java/lang/invoke/VarHandle" ∧ (parseMethodDescriptor (yJ25_init).desc).map (fun d => d.parameters.length) = some 3 := by decide +kernel
theorem met_J25_init (K : ZK) (this : Nat) (a1 : Option Nat) (a2 : Option Nat) (a3 : Option Nat) : zMeth K yJ25_init (zws yJ25_init cJ25_init 4 none) 2 123 [.ref this, va_rf a1, va_rf a2, va_rf a3] encV (s_J25_init K this a1 a2 a3) :=
  fun l G hl hK => zmet_of hl hK (by decide +kernel) rfl rfl (by simp [zsl_nil, zsl_rf, zsl_r, zsl_i, zsl_j, zsl_f, zsl_d]) (fun x hE => by simp only [zla_nil, zla_rf, zla_r, zla_i, zla_j, zla_f, zla_d, Nat.reduceAdd]; exact sm_J25_init hE this a1 a2 a3)
theorem sm_J40_iterator {x : ZX (Option Nat)} {K : ZK} (hE : zE x K cJ40_iterator RJ40 "iterator" 1 7 231 encR (Option.some (Jvm.ClassFile.FieldType.object "java/util/Iterator")) []) (this : Nat) : zS x 0 [(0, va_rf (some this))] [] (s_J40_iterator K this) := by
  unfold s_J40_iterator
  refine zs_new hE (ci := 6) (fs := [.null, .null, .null, .int 0, .null]) rfl in_J25 tyJ25 tyJ25_ok q505 q506 q126 (fun j hj => by rcases (show j = 0 ∨ j = 1 ∨ j = 2 ∨ j = 3 ∨ j = 4 by omega) with rfl | rfl | rfl | rfl | rfl <;> rfl) dJ40_iterator_0 (fun q1 => ?_)
  refine zs_dup hE (zcat_rf _) dJ40_iterator_3 ?_
  refine zs_aload_n hE 0 rfl rfl dJ40_iterator_4 ?_
  refine zs_getR hE (ci := 16) (k := 3) rfl (by decide) in_J40 (Or.inl q1459) (Or.inl rfl) dJ40_iterator_5 (fun v2 => ?_)
  refine zs_aload_n hE 0 rfl rfl dJ40_iterator_8 ?_
  refine zs_getR hE (ci := 16) (k := 3) rfl (by decide) in_J40 (Or.inl q1459) (Or.inl rfl) dJ40_iterator_9 (fun v3 => ?_)
  refine zs_callU hE (xx := ⟨"java/util/TreeMap$AscendingSubMap", "absLowest", "()Ljava/util/TreeMap$Entry;"⟩) (owner := "java/util/TreeMap$NavigableSubMap") (As := []) (encA := encR) (ci := 18) rfl (fun y0 => met_J42_absLowest__J43 K y0) q512 q150 q507 q508 (Or.inl (zn q509 rfl)) (by decide) q511 q510 ⟨(hd_J42_absLowest__J43).1, (hd_J42_absLowest__J43).2.1, (hdx_h8).2.2⟩ (by decide) (by decide) rfl (by simp [zcat_rf, zcat_i, zcat_j, zcat_f, zcat_d]) (fun z hz => by cases hz) dJ40_iterator_12 (fun r4 => ?_)
  show zS _ 15 _ [va_rf r4, va_rf v2, va_rf (some q1), va_rf (some q1)] _
  refine zs_aload_n hE 0 rfl rfl dJ40_iterator_15 ?_
  refine zs_getR hE (ci := 16) (k := 3) rfl (by decide) in_J40 (Or.inl q1459) (Or.inl rfl) dJ40_iterator_16 (fun v5 => ?_)
  refine zs_callU hE (xx := ⟨"java/util/TreeMap$AscendingSubMap", "absHighFence", "()Ljava/util/TreeMap$Entry;"⟩) (owner := "java/util/TreeMap$NavigableSubMap") (As := []) (encA := encR) (ci := 18) rfl (fun y0 => met_J42_absHighFence__J43 K y0) q771 q150 q766 q767 (Or.inl (zn q768 rfl)) (by decide) q770 q769 ⟨(hd_J42_absHighFence__J43).1, (hd_J42_absHighFence__J43).2.1, (hdx_h9).2.2⟩ (by decide) (by decide) rfl (by simp [zcat_rf, zcat_i, zcat_j, zcat_f, zcat_d]) (fun z hz => by cases hz) dJ40_iterator_19 (fun r6 => ?_)
  show zS _ 22 _ [va_rf r6, va_rf r4, va_rf v2, va_rf (some q1), va_rf (some q1)] _
  refine zs_callI hE (As := [va_rf v2, va_rf r4, va_rf r6]) (encA := encV) (met_J25_init K q1 v2 r4 r6) q774 q126 q772 q773 rfl hd_J25_init (by decide) (by decide) rfl (by simp [zcat_rf, zcat_i, zcat_j, zcat_f, zcat_d]) (fun z hz => by cases hz) dJ40_iterator_22 (fun _ => ?_)
  show zS _ 25 _ [va_rf (some q1)] _
  exact zs_aret hE (Or.inl ⟨_, rfl⟩) dJ40_iterator_25
theorem hd_J40_iterator : (yJ40_iterator).cls ≠ "java/lang/invoke/MethodHandle" ∧ (yJ40_iterator).cls ≠ "java/lang/invoke/VarHandle" ∧ (parseMethodDescriptor (yJ40_iterator).desc).map (fun d => d.parameters.length) = some 0 := by decide +kernel
theorem met_J40_iterator (K : ZK) (this : Nat) : zMeth K yJ40_iterator (zws yJ40_iterator cJ40_iterator 1 (Option.some (Jvm.ClassFile.FieldType.object "java/util/Iterator"))) 7 231 [.ref this] encR (s_J40_iterator K this) :=
  fun l G hl hK => zmet_of hl hK (by decide +kernel) rfl rfl (by simp [zsl_nil, zsl_rf, zsl_r, zsl_i, zsl_j, zsl_f, zsl_d]) (fun x hE => by simp only [zla_nil, zla_rf, zla_r, zla_i, zla_j, zla_f, zla_d, Nat.reduceAdd]; exact sm_J40_iterator hE this)
theorem sm_J24_hasNext__J25 {x : ZX Int32} {K : ZK} (hE : zE x K cJ24_hasNext RJ24 "hasNext" 1 1 100 encI (Option.some Jvm.ClassFile.FieldType.boolean) []) (this : Nat) : zS x 0 [(0, va_rf (some this))] [] (s_J24_hasNext__J25 K this) := by
  unfold s_J24_hasNext__J25
  refine zs_aload_n hE 0 rfl rfl dJ24_hasNext_0 ?_
  refine zs_getR hE (ci := 6) (k := 1) rfl (by decide) in_J25 (Or.inl q782) (Or.inl rfl) dJ24_hasNext_1 (fun v1 => ?_)
  refine zs_ifnull hE 25 (by decide) dJ24_hasNext_4 ?_ ?_
  · refine zs_iconst hE (v := (0 : Int32)) (by decide) dJ24_hasNext_25 ?_
    exact zs_zret hE rfl dJ24_hasNext_26
  · refine zs_aload_n hE 0 rfl rfl dJ24_hasNext_7 ?_
    refine zs_getR hE (ci := 6) (k := 1) rfl (by decide) in_J25 (Or.inl q782) (Or.inl rfl) dJ24_hasNext_8 (fun v2 => ?_)
    refine zs_getR hE (ci := 12) (k := 0) rfl (by decide) in_J33 (Or.inl q1670) (Or.inl rfl) dJ24_hasNext_11 (fun v3 => ?_)
    refine zs_aload_n hE 0 rfl rfl dJ24_hasNext_14 ?_
    refine zs_getR hE (ci := 6) (k := 2) rfl (by decide) in_J25 (Or.inl q783) (Or.inl rfl) dJ24_hasNext_15 (fun v4 => ?_)
    refine zs_acmp_eq hE 25 (by decide) dJ24_hasNext_18 ?_ ?_
    · refine zs_iconst hE (v := (0 : Int32)) (by decide) dJ24_hasNext_25 ?_
      exact zs_zret hE rfl dJ24_hasNext_26
    · refine zs_iconst hE (v := (1 : Int32)) (by decide) dJ24_hasNext_21 ?_
      refine zs_goto hE 26 (by decide) dJ24_hasNext_22 ?_
      exact zs_zret hE rfl dJ24_hasNext_26
theorem hd_J24_hasNext__J25 : (yJ24_hasNext).cls ≠ "java/lang/invoke/MethodHandle" ∧ (yJ24_hasNext).cls ≠ "java/lang/invoke/VarHandle" ∧ (parseMethodDescriptor (yJ24_hasNext).desc).map (fun d => d.parameters.length) = some 0 := by decide +kernel
theorem met_J24_hasNext__J25 (K : ZK) (this : Nat) : zMeth K yJ24_hasNext (zws yJ24_hasNext cJ24_hasNext 1 (Option.some Jvm.ClassFile.FieldType.boolean)) 1 100 [.ref this] encI (s_J24_hasNext__J25 K this) :=
  fun l G hl hK => zmet_of hl hK (by decide +kernel) rfl rfl (by simp [zsl_nil, zsl_rf, zsl_r, zsl_i, zsl_j, zsl_f, zsl_d]) (fun x hE => by simp only [zla_nil, zla_rf, zla_r, zla_i, zla_j, zla_f, zla_d, Nat.reduceAdd]; exact sm_J24_hasNext__J25 hE this)
theorem sm_J24_nextEntry__J25 {x : ZX (Option Nat)} {K : ZK} (hE : zE x K cJ24_nextEntry RJ24 "nextEntry" 2 2 122 encR (Option.some (Jvm.ClassFile.FieldType.object "java/util/TreeMap$Entry")) []) (this : Nat) : zS x 0 [(0, va_rf (some this))] [] (s_J24_nextEntry__J25 K this) := by
  unfold s_J24_nextEntry__J25
  refine zs_aload_n hE 0 rfl rfl dJ24_nextEntry_0 ?_
  refine zs_getR hE (ci := 6) (k := 1) rfl (by decide) in_J25 (Or.inl q782) (Or.inl rfl) dJ24_nextEntry_1 (fun v1 => ?_)
  refine zs_astore_n hE (i := 1) (q := 1) rfl (by decide) (zcat_rf (some this)) (lv' := [(0, va_rf (some this))]) rfl dJ24_nextEntry_4 ?_
  refine zs_aload_n hE 0 rfl rfl dJ24_nextEntry_5 ?_
  refine zs_ifnull hE 20 (by decide) dJ24_nextEntry_6 ?_ ?_
  · exact zs_bad
  · refine zs_aload_n hE 0 rfl rfl dJ24_nextEntry_9 ?_
    refine zs_getR hE (ci := 12) (k := 0) rfl (by decide) in_J33 (Or.inl q1670) (Or.inl rfl) dJ24_nextEntry_10 (fun v2 => ?_)
    refine zs_aload_n hE 1 rfl rfl dJ24_nextEntry_13 ?_
    refine zs_getR hE (ci := 6) (k := 2) rfl (by decide) in_J25 (Or.inl q783) (Or.inl rfl) dJ24_nextEntry_14 (fun v3 => ?_)
    refine zs_acmp_ne hE 28 (by decide) dJ24_nextEntry_17 ?_ ?_
    · exact zs_bad
    · refine zs_aload_n hE 1 rfl rfl dJ24_nextEntry_28 ?_
      refine zs_getR hE (ci := 6) (k := 4) rfl (by decide) in_J25 (Or.inl q785) (Or.inl rfl) dJ24_nextEntry_29 (fun v4 => ?_)
      refine zs_getR hE (ci := 18) (k := 0) rfl (by decide) in_J43 (Or.inl q2304) (Or.inl rfl) dJ24_nextEntry_32 (fun v5 => ?_)
      refine zs_getI hE (ci := 0) (k := 5) rfl (by decide) in_J1 (Or.inr ⟨_, zn q191 rfl⟩) (Or.inl rfl) dJ24_nextEntry_35 (fun v6 => ?_)
      refine zs_aload_n hE 1 rfl rfl dJ24_nextEntry_38 ?_
      refine zs_getI hE (ci := 6) (k := 3) rfl (by decide) in_J25 (Or.inl q784) (Or.inl rfl) dJ24_nextEntry_39 (fun v7 => ?_)
      refine zs_icmp_eq hE 53 (by decide) dJ24_nextEntry_42 ?_ ?_
      · refine zs_aload_n hE 1 rfl rfl dJ24_nextEntry_53 ?_
        refine zs_aload_n hE 0 rfl rfl dJ24_nextEntry_54 ?_
        refine zs_callS hE (As := [va_rf v1]) (encA := encR) (met_J1_successor K v1) q1071 q98 q1089 q1070 hd_J1_successor (by decide) (by decide) rfl (by simp [zcat_rf, zcat_i, zcat_j, zcat_f, zcat_d]) (fun z hz => by cases hz) dJ24_nextEntry_55 (fun r8 => ?_)
        show zS _ 58 _ [va_rf r8, va_rf (some this)] _
        refine zs_putR hE (ci := 6) (k := 1) rfl (by decide) in_J25 (Or.inl q782) (Or.inl rfl) (Or.inl rfl) (fun h => nomatch h) (tyJ25_ok 1 (by decide)) (Or.inl ⟨_, rfl⟩) dJ24_nextEntry_58 ?_
        refine zs_aload_n hE 1 rfl rfl dJ24_nextEntry_61 ?_
        refine zs_aload_n hE 0 rfl rfl dJ24_nextEntry_62 ?_
        refine zs_putR hE (ci := 6) (k := 0) rfl (by decide) in_J25 (Or.inl q781) (Or.inl rfl) (Or.inl rfl) (fun h => nomatch h) (tyJ25_ok 0 (by decide)) (Or.inl ⟨_, rfl⟩) dJ24_nextEntry_63 ?_
        refine zs_aload_n hE 0 rfl rfl dJ24_nextEntry_66 ?_
        exact zs_aret hE (Or.inl ⟨_, rfl⟩) dJ24_nextEntry_67
      · exact zs_bad
theorem hd_J24_nextEntry__J25 : (yJ24_nextEntry).cls ≠ "java/lang/invoke/MethodHandle" ∧ (yJ24_nextEntry).cls ≠ "java/lang/invoke/VarHandle" ∧ (parseMethodDescriptor (yJ24_nextEntry).desc).map (fun d => d.parameters.length) = some 0 := by decide +kernel
theorem met_J24_nextEntry__J25 (K : ZK) (this : Nat) : zMeth K yJ24_nextEntry (zws yJ24_nextEntry cJ24_nextEntry 2 (Option.some (Jvm.ClassFile.FieldType.object "java/util/TreeMap$Entry"))) 2 122 [.ref this] encR (s_J24_nextEntry__J25 K this) :=
  fun l G hl hK => zmet_of hl hK (by decide +kernel) rfl rfl (by simp [zsl_nil, zsl_rf, zsl_r, zsl_i, zsl_j, zsl_f, zsl_d]) (fun x hE => by simp only [zla_nil, zla_rf, zla_r, zla_i, zla_j, zla_f, zla_d, Nat.reduceAdd]; exact sm_J24_nextEntry__J25 hE this)
theorem sm_J25_next_2 {x : ZX (Option Nat)} {K : ZK} (hE : zE x K cJ25_next_2 RJ25 "next" 1 3 143 encR (Option.some (Jvm.ClassFile.FieldType.object "java/util/Map$Entry")) []) (this : Nat) : zS x 0 [(0, va_rf (some this))] [] (s_J25_next_2 K this) := by
  unfold s_J25_next_2
  refine zs_aload_n hE 0 rfl rfl dJ25_next_2_0 ?_
  refine zs_callU hE (xx := ⟨"java/util/TreeMap$NavigableSubMap$SubMapEntryIterator", "nextEntry", "()Ljava/util/TreeMap$Entry;"⟩) (owner := "java/util/TreeMap$NavigableSubMap$SubMapIterator") (As := []) (encA := encR) (ci := 6) rfl (fun y0 => met_J24_nextEntry__J25 K y0) q1086 q125 q1081 q1082 (Or.inl (zn q1083 rfl)) (by decide) q1085 q1084 ⟨(hd_J24_nextEntry__J25).1, (hd_J24_nextEntry__J25).2.1, (hdx_h11).2.2⟩ (by decide) (by decide) rfl (by simp [zcat_rf, zcat_i, zcat_j, zcat_f, zcat_d]) (fun z hz => by cases hz) dJ25_next_2_1 (fun r1 => ?_)
  show zS _ 4 _ [va_rf r1] _
  exact zs_aret hE (Or.inl ⟨_, rfl⟩) dJ25_next_2_4
theorem hd_J25_next_2 : (yJ25_next_2).cls ≠ "java/lang/invoke/MethodHandle" ∧ (yJ25_next_2).cls ≠ "java/lang/invoke/VarHandle" ∧ (parseMethodDescriptor (yJ25_next_2).desc).map (fun d => d.parameters.length) = some 0 := by decide +kernel
theorem met_J25_next_2 (K : ZK) (this : Nat) : zMeth K yJ25_next_2 (zws yJ25_next_2 cJ25_next_2 1 (Option.some (Jvm.ClassFile.FieldType.object "java/util/Map$Entry"))) 3 143 [.ref this] encR (s_J25_next_2 K this) :=
  fun l G hl hK => zmet_of hl hK (by decide +kernel) rfl rfl (by simp [zsl_nil, zsl_rf, zsl_r, zsl_i, zsl_j, zsl_f, zsl_d]) (fun x hE => by simp only [zla_nil, zla_rf, zla_r, zla_i, zla_j, zla_f, zla_d, Nat.reduceAdd]; exact sm_J25_next_2 hE this)
theorem sm_J25_next {x : ZX (Option Nat)} {K : ZK} (hE : zE x K cJ25_next RJ25 "next" 1 4 163 encR (Option.some (Jvm.ClassFile.FieldType.object "java/lang/Object")) []) (this : Nat) : zS x 0 [(0, va_rf (some this))] [] (s_J25_next K this) := by
  unfold s_J25_next
  refine zs_aload_n hE 0 rfl rfl dJ25_next_0 ?_
  refine zs_callV hE (As := []) (encA := encR) (ci := 6) rfl (fun y0 => met_J25_next_2 K y0) q1080 q126 q1077 q1078 (zq q1079) hd_J25_next_2 (by decide) (by decide) rfl (by simp [zcat_rf, zcat_i, zcat_j, zcat_f, zcat_d]) (fun z hz => by cases hz) dJ25_next_1 (fun r1 => ?_)
  show zS _ 4 _ [va_rf r1] _
  exact zs_aret hE (Or.inl ⟨_, rfl⟩) dJ25_next_4
theorem hd_J25_next : (yJ25_next).cls ≠ "java/lang/invoke/MethodHandle" ∧ (yJ25_next).cls ≠ "java/lang/invoke/VarHandle" ∧ (parseMethodDescriptor (yJ25_next).desc).map (fun d => d.parameters.length) = some 0 := by decide +kernel
theorem met_J25_next (K : ZK) (this : Nat) : zMeth K yJ25_next (zws yJ25_next cJ25_next 1 (Option.some (Jvm.ClassFile.FieldType.object "java/lang/Object"))) 4 163 [.ref this] encR (s_J25_next K this) :=
  fun l G hl hK => zmet_of hl hK (by decide +kernel) rfl rfl (by simp [zsl_nil, zsl_rf, zsl_r, zsl_i, zsl_j, zsl_f, zsl_d]) (fun x hE => by simp only [zla_nil, zla_rf, zla_r, zla_i, zla_j, zla_f, zla_d, Nat.reduceAdd]; exact sm_J25_next hE this)
theorem sm_J39_size__J40_J109 {x : ZX Int32} {K : ZK} (hE : zE x K cJ39_size RJ39 "size" 2 8 251 encI (Option.some Jvm.ClassFile.FieldType.int) []) (x0 : Nat) : zS x 109 [(0, va_rf (some x0))] [] (s_J39_size__J40_J109 K x0) := by
  unfold s_J39_size__J40_J109
  refine zs_aload_n hE 0 rfl rfl dJ39_size_109 ?_
  refine zs_getI hE (ci := 16) (k := 0) rfl (by decide) in_J40 (Or.inl q1460) (Or.inl rfl) dJ39_size_110 (fun v9 => ?_)
  exact zs_iret hE dJ39_size_113
theorem sm_J39_size__J40_B80 {x : ZX Int32} {K : ZK} (hE : zE x K cJ39_size RJ39 "size" 2 8 251 encI (Option.some Jvm.ClassFile.FieldType.int) []) (x0 : Nat) (x1 : Option Nat) (self80 : Unit → ZP Int32) (hs80 : ∀ v : Unit, zS x 80 [(0, va_rf (some x0)), (1, va_rf x1)] [] (self80 v)) : zS x 80 [(0, va_rf (some x0)), (1, va_rf x1)] [] (s_J39_size__J40_B80 K x0 x1 self80) := by
  unfold s_J39_size__J40_B80
  refine zs_aload_n hE 1 rfl rfl dJ39_size_80 ?_
  refine zs_callF hE (xx := ⟨"java/util/Iterator", "hasNext", "()Z"⟩) (As := []) (encA := encI) (ci := 6) rfl (fun y0 => met_J24_hasNext__J25 K y0) q881 q125 q1488 (List.mem_of_getElem? (i := 7) rfl) q879 q877 hdx_h2 (by decide) (by decide) rfl (by simp [zcat_rf, zcat_i, zcat_j, zcat_f, zcat_d]) (fun z hz => by cases hz) dJ39_size_81 (fun r8 => ?_)
  show zS _ 86 _ [.int r8] _
  refine zs_if_eq hE 109 (by decide) dJ39_size_86 ?_ ?_
  · refine zs_sub [0] rfl ?_
    exact sm_J39_size__J40_J109 hE x0
  · refine zs_aload_n hE 0 rfl rfl dJ39_size_89 ?_
    refine zs_dup hE (zcat_rf _) dJ39_size_90 ?_
    refine zs_getI hE (ci := 16) (k := 0) rfl (by decide) in_J40 (Or.inl q1460) (Or.inl rfl) dJ39_size_91 (fun v10 => ?_)
    refine zs_iconst hE (v := (1 : Int32)) (by decide) dJ39_size_94 ?_
    refine zs_iadd hE dJ39_size_95 ?_
    refine zs_putI hE (ci := 16) (k := 0) rfl (by decide) in_J40 (Or.inl q1460) (Or.inl rfl) (Or.inl rfl) (fun h => nomatch h) rfl dJ39_size_96 ?_
    refine zs_aload_n hE 1 rfl rfl dJ39_size_99 ?_
    refine zs_callF hE (xx := ⟨"java/util/Iterator", "next", "()Ljava/lang/Object;"⟩) (As := []) (encA := encR) (ci := 6) rfl (fun y0 => met_J25_next K y0) q1076 q126 q1490 (List.mem_of_getElem? (i := 8) rfl) q1074 q1072 hdx_h4 (by decide) (by decide) rfl (by simp [zcat_rf, zcat_i, zcat_j, zcat_f, zcat_d]) (fun z hz => by cases hz) dJ39_size_100 (fun r11 => ?_)
    show zS _ 105 _ [va_rf r11] _
    refine zs_pop hE (zcat_rf _) dJ39_size_105 ?_
    refine zs_goto hE 80 (by decide) dJ39_size_106 ?_
    exact hs80 ()
theorem sm_J39_size__J40_L80 {x : ZX Int32} {K : ZK} (hE : zE x K cJ39_size RJ39 "size" 2 8 251 encI (Option.some Jvm.ClassFile.FieldType.int) []) (x0 : Nat) (x1 : Option Nat) (v : Unit) : zS x 80 [(0, va_rf (some x0)), (1, va_rf x1)] [] (s_J39_size__J40_L80 K x0 x1 v) := by
  unfold s_J39_size__J40_L80
  exact zs_loop (lvf := fun v => [(0, va_rf (some x0)), (1, va_rf x1)]) (fun self80 hs80 v => sm_J39_size__J40_B80 hE x0 x1 self80 hs80) v
theorem sm_J39_size__J40_J56 {x : ZX Int32} {K : ZK} (hE : zE x K cJ39_size RJ39 "size" 2 8 251 encI (Option.some Jvm.ClassFile.FieldType.int) []) (x0 : Nat) : zS x 56 [(0, va_rf (some x0))] [] (s_J39_size__J40_J56 K x0) := by
  unfold s_J39_size__J40_J56
  refine zs_aload_n hE 0 rfl rfl dJ39_size_56 ?_
  refine zs_aload_n hE 0 rfl rfl dJ39_size_57 ?_
  refine zs_getR hE (ci := 16) (k := 2) rfl (by decide) in_J40 (Or.inl q1462) (Or.inl rfl) dJ39_size_58 (fun v4 => ?_)
  refine zs_getR hE (ci := 18) (k := 0) rfl (by decide) in_J43 (Or.inl q2306) (Or.inl rfl) dJ39_size_61 (fun v5 => ?_)
  refine zs_getI hE (ci := 0) (k := 5) rfl (by decide) in_J1 (Or.inr ⟨_, zn q192 rfl⟩) (Or.inl rfl) dJ39_size_64 (fun v6 => ?_)
  refine zs_putI hE (ci := 16) (k := 1) rfl (by decide) in_J40 (Or.inl q1461) (Or.inl rfl) (Or.inl rfl) (fun h => nomatch h) rfl dJ39_size_67 ?_
  refine zs_aload_n hE 0 rfl rfl dJ39_size_70 ?_
  refine zs_iconst hE (v := (0 : Int32)) (by decide) dJ39_size_71 ?_
  refine zs_putI hE (ci := 16) (k := 0) rfl (by decide) in_J40 (Or.inl q1460) (Or.inl rfl) (Or.inl rfl) (fun h => nomatch h) rfl dJ39_size_72 ?_
  refine zs_aload_n hE 0 rfl rfl dJ39_size_75 ?_
  refine zs_callU hE (xx := ⟨"java/util/TreeMap$NavigableSubMap$EntrySetView", "iterator", "()Ljava/util/Iterator;"⟩) (owner := "java/util/AbstractCollection") (As := []) (encA := encR) (ci := 16) rfl (fun y0 => met_J40_iterator K y0) q504 q146 q1483 q1484 (Or.inl (zn q1485 rfl)) (by decide) q502 q1486 ⟨(hd_J40_iterator).1, (hd_J40_iterator).2.1, (hdx_h10).2.2⟩ (by decide) (by decide) rfl (by simp [zcat_rf, zcat_i, zcat_j, zcat_f, zcat_d]) (fun z hz => by cases hz) dJ39_size_76 (fun r7 => ?_)
  show zS _ 79 _ [va_rf r7] _
  refine zs_astore_n hE (i := 1) (q := 1) rfl (by decide) (zcat_rf (some x0)) (lv' := [(0, va_rf (some x0))]) rfl dJ39_size_79 ?_
  refine zs_sub [1, 0] rfl ?_
  exact sm_J39_size__J40_L80 hE x0 r7 ()
theorem sm_J39_size__J40_J31 {x : ZX Int32} {K : ZK} (hE : zE x K cJ39_size RJ39 "size" 2 8 251 encI (Option.some Jvm.ClassFile.FieldType.int) []) (x0 : Nat) : zS x 31 [(0, va_rf (some x0))] [] (s_J39_size__J40_J31 K x0) := by
  unfold s_J39_size__J40_J31
  refine zs_aload_n hE 0 rfl rfl dJ39_size_31 ?_
  refine zs_getI hE (ci := 16) (k := 0) rfl (by decide) in_J40 (Or.inl q1460) (Or.inl rfl) dJ39_size_32 (fun v3 => ?_)
  refine zs_iconst hE (v := (-1 : Int32)) (by decide) dJ39_size_35 ?_
  refine zs_icmp_eq hE 56 (by decide) dJ39_size_36 ?_ ?_
  · exact sm_J39_size__J40_J56 hE x0
  · refine zs_aload_n hE 0 rfl rfl dJ39_size_39 ?_
    refine zs_getI hE (ci := 16) (k := 1) rfl (by decide) in_J40 (Or.inl q1461) (Or.inl rfl) dJ39_size_40 (fun v12 => ?_)
    refine zs_aload_n hE 0 rfl rfl dJ39_size_43 ?_
    refine zs_getR hE (ci := 16) (k := 2) rfl (by decide) in_J40 (Or.inl q1462) (Or.inl rfl) dJ39_size_44 (fun v13 => ?_)
    refine zs_getR hE (ci := 18) (k := 0) rfl (by decide) in_J43 (Or.inl q2306) (Or.inl rfl) dJ39_size_47 (fun v14 => ?_)
    refine zs_getI hE (ci := 0) (k := 5) rfl (by decide) in_J1 (Or.inr ⟨_, zn q192 rfl⟩) (Or.inl rfl) dJ39_size_50 (fun v15 => ?_)
    refine zs_icmp_eq hE 109 (by decide) dJ39_size_53 ?_ ?_
    · exact sm_J39_size__J40_J109 hE x0
    · exact sm_J39_size__J40_J56 hE x0
theorem sm_J39_size__J40 {x : ZX Int32} {K : ZK} (hE : zE x K cJ39_size RJ39 "size" 2 8 251 encI (Option.some Jvm.ClassFile.FieldType.int) []) (this : Nat) : zS x 0 [(0, va_rf (some this))] [] (s_J39_size__J40 K this) := by
  unfold s_J39_size__J40
  refine zs_aload_n hE 0 rfl rfl dJ39_size_0 ?_
  refine zs_getR hE (ci := 16) (k := 2) rfl (by decide) in_J40 (Or.inl q1462) (Or.inl rfl) dJ39_size_1 (fun v1 => ?_)
  refine zs_getI hE (ci := 18) (k := 3) rfl (by decide) in_J43 (Or.inl q2310) (Or.inl rfl) dJ39_size_4 (fun v2 => ?_)
  refine zs_if_eq hE 31 (by decide) dJ39_size_7 ?_ ?_
  · exact sm_J39_size__J40_J31 hE this
  · refine zs_aload_n hE 0 rfl rfl dJ39_size_10 ?_
    refine zs_getR hE (ci := 16) (k := 2) rfl (by decide) in_J40 (Or.inl q1462) (Or.inl rfl) dJ39_size_11 (fun v16 => ?_)
    refine zs_getI hE (ci := 18) (k := 4) rfl (by decide) in_J43 (Or.inl q2312) (Or.inl rfl) dJ39_size_14 (fun v17 => ?_)
    refine zs_if_eq hE 31 (by decide) dJ39_size_17 ?_ ?_
    · exact sm_J39_size__J40_J31 hE this
    · refine zs_aload_n hE 0 rfl rfl dJ39_size_20 ?_
      refine zs_getR hE (ci := 16) (k := 2) rfl (by decide) in_J40 (Or.inl q1462) (Or.inl rfl) dJ39_size_21 (fun v18 => ?_)
      refine zs_getR hE (ci := 18) (k := 0) rfl (by decide) in_J43 (Or.inl q2306) (Or.inl rfl) dJ39_size_24 (fun v19 => ?_)
      refine zs_callV hE (As := []) (encA := encI) (ci := 0) rfl (fun y0 => met_J1_size K y0) q857 q98 q1482 q855 (zq q856) hd_J1_size (by decide) (by decide) rfl (by simp [zcat_rf, zcat_i, zcat_j, zcat_f, zcat_d]) (fun z hz => by cases hz) dJ39_size_27 (fun r20 => ?_)
      show zS _ 30 _ [.int r20] _
      exact zs_iret hE dJ39_size_30
theorem hd_J39_size__J40 : (yJ39_size).cls ≠ "java/lang/invoke/MethodHandle" ∧ (yJ39_size).cls ≠ "java/lang/invoke/VarHandle" ∧ (parseMethodDescriptor (yJ39_size).desc).map (fun d => d.parameters.length) = some 0 := by decide +kernel
theorem met_J39_size__J40 (K : ZK) (this : Nat) : zMeth K yJ39_size (zws yJ39_size cJ39_size 2 (Option.some Jvm.ClassFile.FieldType.int)) 8 251 [.ref this] encI (s_J39_size__J40 K this) :=
  fun l G hl hK => zmet_of hl hK (by decide +kernel) rfl rfl (by simp [zsl_nil, zsl_rf, zsl_r, zsl_i, zsl_j, zsl_f, zsl_d]) (fun x hE => by simp only [zla_nil, zla_rf, zla_r, zla_i, zla_j, zla_f, zla_d, Nat.reduceAdd]; exact sm_J39_size__J40 hE this)
theorem sm_J42_size__J43_J24 {x : ZX Int32} {K : ZK} (hE : zE x K cJ42_size RJ42 "size" 1 9 272 encI (Option.some Jvm.ClassFile.FieldType.int) []) (x0 : Nat) : zS x 24 [(0, va_rf (some x0))] [] (s_J42_size__J43_J24 K x0) := by
  unfold s_J42_size__J43_J24
  refine zs_aload_n hE 0 rfl rfl dJ42_size_24 ?_
  refine zs_callU hE (xx := ⟨"java/util/TreeMap$NavigableSubMap", "entrySet", "()Ljava/util/Set;"⟩) (owner := "java/util/AbstractMap") (As := []) (encA := encR) (ci := 18) rfl (fun y0 => met_J43_entrySet K y0) q1446 q151 q1441 q1442 (Or.inl (zn q1443 rfl)) (by decide) q1445 q1444 ⟨(hd_J43_entrySet).1, (hd_J43_entrySet).2.1, (hdx_h7).2.2⟩ (by decide) (by decide) rfl (by simp [zcat_rf, zcat_i, zcat_j, zcat_f, zcat_d]) (fun z hz => by cases hz) dJ42_size_25 (fun r2 => ?_)
  show zS _ 28 _ [va_rf r2] _
  refine zs_callF hE (xx := ⟨"java/util/Set", "size", "()I"⟩) (As := []) (encA := encI) (ci := 16) rfl (fun y0 => met_J39_size__J40 K y0) q1481 q145 q1473 (List.mem_of_getElem? (i := 10) rfl) q1479 q1477 hdx_h12 (by decide) (by decide) rfl (by simp [zcat_rf, zcat_i, zcat_j, zcat_f, zcat_d]) (fun z hz => by cases hz) dJ42_size_28 (fun r3 => ?_)
  show zS _ 33 _ [.int r3] _
  exact zs_iret hE dJ42_size_33
theorem sm_J42_size__J43 {x : ZX Int32} {K : ZK} (hE : zE x K cJ42_size RJ42 "size" 1 9 272 encI (Option.some Jvm.ClassFile.FieldType.int) []) (this : Nat) : zS x 0 [(0, va_rf (some this))] [] (s_J42_size__J43 K this) := by
  unfold s_J42_size__J43
  refine zs_aload_n hE 0 rfl rfl dJ42_size_0 ?_
  refine zs_getI hE (ci := 18) (k := 3) rfl (by decide) in_J43 (Or.inl q2309) (Or.inl rfl) dJ42_size_1 (fun v1 => ?_)
  refine zs_if_eq hE 24 (by decide) dJ42_size_4 ?_ ?_
  · exact sm_J42_size__J43_J24 hE this
  · refine zs_aload_n hE 0 rfl rfl dJ42_size_7 ?_
    refine zs_getI hE (ci := 18) (k := 4) rfl (by decide) in_J43 (Or.inl q2311) (Or.inl rfl) dJ42_size_8 (fun v4 => ?_)
    refine zs_if_eq hE 24 (by decide) dJ42_size_11 ?_ ?_
    · exact sm_J42_size__J43_J24 hE this
    · refine zs_aload_n hE 0 rfl rfl dJ42_size_14 ?_
      refine zs_getR hE (ci := 18) (k := 0) rfl (by decide) in_J43 (Or.inl q2305) (Or.inl rfl) dJ42_size_15 (fun v5 => ?_)
      refine zs_callV hE (As := []) (encA := encI) (ci := 0) rfl (fun y0 => met_J1_size K y0) q857 q98 q1440 q855 (zq q856) hd_J1_size (by decide) (by decide) rfl (by simp [zcat_rf, zcat_i, zcat_j, zcat_f, zcat_d]) (fun z hz => by cases hz) dJ42_size_18 (fun r6 => ?_)
      show zS _ 21 _ [.int r6] _
      refine zs_goto hE 33 (by decide) dJ42_size_21 ?_
      exact zs_iret hE dJ42_size_33
theorem hd_J42_size__J43 : (yJ42_size).cls ≠ "java/lang/invoke/MethodHandle" ∧ (yJ42_size).cls ≠ "java/lang/invoke/VarHandle" ∧ (parseMethodDescriptor (yJ42_size).desc).map (fun d => d.parameters.length) = some 0 := by decide +kernel
theorem met_J42_size__J43 (K : ZK) (this : Nat) : zMeth K yJ42_size (zws yJ42_size cJ42_size 1 (Option.some Jvm.ClassFile.FieldType.int)) 9 272 [.ref this] encI (s_J42_size__J43 K this) :=
  fun l G hl hK => zmet_of hl hK (by decide +kernel) rfl rfl (by simp [zsl_nil, zsl_rf, zsl_r, zsl_i, zsl_j, zsl_f, zsl_d]) (fun x hE => by simp only [zla_nil, zla_rf, zla_r, zla_i, zla_j, zla_f, zla_d, Nat.reduceAdd]; exact sm_J42_size__J43 hE this)
theorem sm_X1_placeOf {x : ZX Int32} {K : ZK} (hE : zE x K cX1_placeOf RX1 "placeOf" 2 10 292 encI (Option.some Jvm.ClassFile.FieldType.int) []) (this : Nat) (a1 : Int32) : zS x 0 [(0, va_rf (some this)), (1, .int a1)] [] (s_X1_placeOf K this a1) := by
  unfold s_X1_placeOf
  refine zs_aload_n hE 0 rfl rfl dX1_placeOf_0 ?_
  refine zs_getR hE (ci := 24) (k := 0) rfl (by decide) in_X1 (Or.inl q391) (Or.inl rfl) dX1_placeOf_1 (fun v1 => ?_)
  refine zs_getR hE (ci := 34) (k := 0) rfl (by decide) in_X2 (Or.inr ⟨_, zn q218 rfl⟩) (Or.inl rfl) dX1_placeOf_4 (fun v2 => ?_)
  refine zs_iload_n hE 1 rfl rfl dX1_placeOf_7 ?_
  refine zs_callS hE (As := [.int a1]) (encA := encR) (met_J13_valueOf K a1) q904 q112 q1819 q903 hd_J13_valueOf (by decide) (by decide) rfl (by simp [zcat_rf, zcat_i, zcat_j, zcat_f, zcat_d]) (fun z hz => by cases hz) dX1_placeOf_8 (fun r3 => ?_)
  show zS _ 11 _ [va_rf r3, va_rf v2] _
  refine zs_callV hE (As := [va_rf r3]) (encA := encR) (ci := 0) rfl (fun y0 => met_J1_headMap K y0 r3) q2287 q98 q2284 q2285 (zq q2286) hd_J1_headMap (by decide) (by decide) rfl (by simp [zcat_rf, zcat_i, zcat_j, zcat_f, zcat_d]) (fun z hz => by cases hz) dX1_placeOf_11 (fun r4 => ?_)
  show zS _ 14 _ [va_rf r4] _
  refine zs_callFU hE (xx := ⟨"java/util/SortedMap", "size", "()I"⟩) (J := "java/util/Map") (As := []) (encA := encI) (ci := 18) rfl (fun y0 => met_J42_size__J43 K y0) q1439 q150 ⟨rfl, rfl, rfl, rfl, rfl, rfl⟩ (zn q2342 rfl) (zn q2347 rfl) q1438 q2348 ⟨by decide, by decide, (hd_J42_size__J43).2.2⟩ (by decide) (by decide) rfl (by simp [zcat_rf, zcat_i, zcat_j, zcat_f, zcat_d]) (fun z hz => by cases hz) dX1_placeOf_14 (fun r304 => ?_)
  show zS _ 19 _ [.int r304] _
  exact zs_iret hE dX1_placeOf_19
theorem hd_X1_placeOf : (yX1_placeOf).cls ≠ "java/lang/invoke/MethodHandle" ∧ (yX1_placeOf).cls ≠ "java/lang/invoke/VarHandle" ∧ (parseMethodDescriptor (yX1_placeOf).desc).map (fun d => d.parameters.length) = some 1 := by decide +kernel
theorem met_X1_placeOf (K : ZK) (this : Nat) (a1 : Int32) : zMeth K yX1_placeOf (zws yX1_placeOf cX1_placeOf 2 (Option.some Jvm.ClassFile.FieldType.int)) 10 292 [.ref this, .int a1] encI (s_X1_placeOf K this a1) :=
  fun l G hl hK => zmet_of hl hK (by decide +kernel) rfl rfl (by simp [zsl_nil, zsl_rf, zsl_r, zsl_i, zsl_j, zsl_f, zsl_d]) (fun x hE => by simp only [zla_nil, zla_rf, zla_r, zla_i, zla_j, zla_f, zla_d, Nat.reduceAdd]; exact sm_X1_placeOf hE this a1)
theorem sm_X1_stepsAgain_J21 {x : ZX Int32} {K : ZK} (hE : zE x K cX1_stepsAgain RX1 "stepsAgain" 4 11 313 encI (Option.some Jvm.ClassFile.FieldType.int) []) (x0 : Nat) (x1 : Int32) (x2 : Int32) (t0 : Int32) : zS x 21 [(0, va_rf (some x0)), (1, .int x1), (2, .int x2)] [.int t0] (s_X1_stepsAgain_J21 K x0 x1 x2 t0) := by
  unfold s_X1_stepsAgain_J21
  refine zs_callS hE (As := [.int t0]) (encA := encV) (met_X1_checkIndex K t0) q2175 q95 q2173 q2174 hd_X1_checkIndex (by decide) (by decide) rfl (by simp [zcat_rf, zcat_i, zcat_j, zcat_f, zcat_d]) (fun z hz => by cases hz) dX1_stepsAgain_21 (fun _ => ?_)
  show zS _ 24 _ [] _
  refine zs_aload_n hE 0 rfl rfl dX1_stepsAgain_24 ?_
  refine zs_iload_n hE 2 rfl rfl dX1_stepsAgain_25 ?_
  refine zs_callV hE (As := [.int x2]) (encA := encI) (ci := 24) rfl (fun y0 => met_X1_placeOf K y0 x2) q2283 q95 q2280 q2282 (zq qs30) hd_X1_placeOf (by decide) (by decide) rfl (by simp [zcat_rf, zcat_i, zcat_j, zcat_f, zcat_d]) (fun z hz => by cases hz) dX1_stepsAgain_26 (fun r2 => ?_)
  show zS _ 29 _ [.int r2] _
  refine zs_aload_n hE 0 rfl rfl dX1_stepsAgain_29 ?_
  refine zs_iload_n hE 1 rfl rfl dX1_stepsAgain_30 ?_
  refine zs_callV hE (As := [.int x1]) (encA := encI) (ci := 24) rfl (fun y0 => met_X1_placeOf K y0 x1) q2283 q95 q2280 q2282 (zq qs30) hd_X1_placeOf (by decide) (by decide) rfl (by simp [zcat_rf, zcat_i, zcat_j, zcat_f, zcat_d]) (fun z hz => by cases hz) dX1_stepsAgain_31 (fun r3 => ?_)
  show zS _ 34 _ [.int r3, .int r2] _
  refine zs_isub hE dX1_stepsAgain_34 ?_
  refine zs_istore_n hE (i := 3) (q := 3) rfl (by decide) (rfl) (lv' := [(0, va_rf (some x0)), (1, .int x1), (2, .int x2)]) rfl dX1_stepsAgain_35 ?_
  refine zs_iload_n hE 0 rfl rfl dX1_stepsAgain_36 ?_
  refine zs_if_ge hE 55 (by decide) dX1_stepsAgain_37 ?_ ?_
  · refine zs_iload_n hE 0 rfl rfl dX1_stepsAgain_55 ?_
    exact zs_iret hE dX1_stepsAgain_56
  · refine zs_iload_n hE 0 rfl rfl dX1_stepsAgain_40 ?_
    refine zs_aload_n hE 1 rfl rfl dX1_stepsAgain_41 ?_
    refine zs_getR hE (ci := 24) (k := 0) rfl (by decide) in_X1 (Or.inl q391) (Or.inl rfl) dX1_stepsAgain_42 (fun v4 => ?_)
    refine zs_getR hE (ci := 34) (k := 0) rfl (by decide) in_X2 (Or.inr ⟨_, zn q218 rfl⟩) (Or.inl rfl) dX1_stepsAgain_45 (fun v5 => ?_)
    refine zs_callV hE (As := []) (encA := encI) (ci := 0) rfl (fun y0 => met_J1_size K y0) q857 q98 q1824 q855 (zq q856) hd_J1_size (by decide) (by decide) rfl (by simp [zcat_rf, zcat_i, zcat_j, zcat_f, zcat_d]) (fun z hz => by cases hz) dX1_stepsAgain_48 (fun r6 => ?_)
    show zS _ 51 _ [.int r6, .int (r2 - r3)] _
    refine zs_iadd hE dX1_stepsAgain_51 ?_
    refine zs_goto hE 56 (by decide) dX1_stepsAgain_52 ?_
    exact zs_iret hE dX1_stepsAgain_56
theorem sm_X1_stepsAgain_J20 {x : ZX Int32} {K : ZK} (hE : zE x K cX1_stepsAgain RX1 "stepsAgain" 4 11 313 encI (Option.some Jvm.ClassFile.FieldType.int) []) (x0 : Nat) (x1 : Int32) (x2 : Int32) : zS x 20 [(0, va_rf (some x0)), (1, .int x1), (2, .int x2)] [] (s_X1_stepsAgain_J20 K x0 x1 x2) := by
  unfold s_X1_stepsAgain_J20
  refine zs_iconst hE (v := (0 : Int32)) (by decide) dX1_stepsAgain_20 ?_
  exact sm_X1_stepsAgain_J21 hE x0 x1 x2 (0 : Int32)
theorem sm_X1_stepsAgain {x : ZX Int32} {K : ZK} (hE : zE x K cX1_stepsAgain RX1 "stepsAgain" 4 11 313 encI (Option.some Jvm.ClassFile.FieldType.int) []) (this : Nat) (a1 : Int32) (a2 : Int32) : zS x 0 [(0, va_rf (some this)), (1, .int a1), (2, .int a2)] [] (s_X1_stepsAgain K this a1 a2) := by
  unfold s_X1_stepsAgain
  refine zs_aload_n hE 0 rfl rfl dX1_stepsAgain_0 ?_
  refine zs_iload_n hE 1 rfl rfl dX1_stepsAgain_1 ?_
  refine zs_callV hE (As := [.int a1]) (encA := encI) (ci := 24) rfl (fun y0 => met_X1_isStation K y0 a1) q1818 q95 q1815 q1817 (zq qs12) hd_X1_isStation (by decide) (by decide) rfl (by simp [zcat_rf, zcat_i, zcat_j, zcat_f, zcat_d]) (fun z hz => by cases hz) dX1_stepsAgain_2 (fun r1 => ?_)
  show zS _ 5 _ [.int r1] _
  refine zs_if_eq hE 20 (by decide) dX1_stepsAgain_5 ?_ ?_
  · exact sm_X1_stepsAgain_J20 hE this a1 a2
  · refine zs_aload_n hE 0 rfl rfl dX1_stepsAgain_8 ?_
    refine zs_iload_n hE 2 rfl rfl dX1_stepsAgain_9 ?_
    refine zs_callV hE (As := [.int a2]) (encA := encI) (ci := 24) rfl (fun y0 => met_X1_isStation K y0 a2) q1818 q95 q1815 q1817 (zq qs12) hd_X1_isStation (by decide) (by decide) rfl (by simp [zcat_rf, zcat_i, zcat_j, zcat_f, zcat_d]) (fun z hz => by cases hz) dX1_stepsAgain_10 (fun r7 => ?_)
    show zS _ 13 _ [.int r7] _
    refine zs_if_eq hE 20 (by decide) dX1_stepsAgain_13 ?_ ?_
    · exact sm_X1_stepsAgain_J20 hE this a1 a2
    · refine zs_iconst hE (v := (1 : Int32)) (by decide) dX1_stepsAgain_16 ?_
      refine zs_goto hE 21 (by decide) dX1_stepsAgain_17 ?_
      exact sm_X1_stepsAgain_J21 hE this a1 a2 (1 : Int32)
theorem hd_X1_stepsAgain : (yX1_stepsAgain).cls ≠ "java/lang/invoke/MethodHandle" ∧ (yX1_stepsAgain).cls ≠ "java/lang/invoke/VarHandle" ∧ (parseMethodDescriptor (yX1_stepsAgain).desc).map (fun d => d.parameters.length) = some 2 := by decide +kernel
theorem met_X1_stepsAgain (K : ZK) (this : Nat) (a1 : Int32) (a2 : Int32) : zMeth K yX1_stepsAgain (zws yX1_stepsAgain cX1_stepsAgain 4 (Option.some Jvm.ClassFile.FieldType.int)) 11 313 [.ref this, .int a1, .int a2] encI (s_X1_stepsAgain K this a1 a2) :=
  fun l G hl hK => zmet_of hl hK (by decide +kernel) rfl rfl (by simp [zsl_nil, zsl_rf, zsl_r, zsl_i, zsl_j, zsl_f, zsl_d]) (fun x hE => by simp only [zla_nil, zla_rf, zla_r, zla_i, zla_j, zla_f, zla_d, Nat.reduceAdd]; exact sm_X1_stepsAgain hE this a1 a2)
theorem sm_X0_stepsAgain {x : ZX Int32} {K : ZK} (hE : zE x K cX0_stepsAgain RX0 "stepsAgain" 5 12 336 encI (Option.some Jvm.ClassFile.FieldType.int) (tableOf [((0 : Nat), (10 : Nat), (13 : Nat), (52 : Nat))])) (a1 : Option Nat) (a2 : Int32) (a3 : Int32) (a4 : Option Nat) : zS x 0 [(0, va_rf a1), (1, .int a2), (2, .int a3), (3, va_rf a4)] [] (s_X0_stepsAgain K a1 a2 a3 a4) := by
  unfold s_X0_stepsAgain
  refine zs_aload_n hE 3 rfl rfl dX0_stepsAgain_0 ?_
  refine zs_iconst hE (v := (0 : Int32)) (by decide) dX0_stepsAgain_1 ?_
  refine zs_aload_n hE 0 rfl rfl dX0_stepsAgain_2 ?_
  refine zs_iload_n hE 1 rfl rfl dX0_stepsAgain_3 ?_
  refine zs_iload_n hE 2 rfl rfl dX0_stepsAgain_4 ?_
  refine zs_callVT hE (As := [.int a2, .int a3]) (encA := encI) (ci := 24) rfl (fun y0 => met_X1_stepsAgain K y0 a2 a3) q2279 q95 q2276 q2277 (zq q2278) hd_X1_stepsAgain (by decide) (by decide) rfl (by simp [zcat_rf, zcat_i, zcat_j, zcat_f, zcat_d]) (zhl_cons (zhnd (tableOf []) (tableOf []) ⟨0, 10, 13, 52⟩ rfl (fun w hw => by cases hw) (by decide) (by decide) q2162 (zn q1987 rfl) (fun q1 => ?_)) zhl_nil) dX0_stepsAgain_5 (fun r2 => ?_)
  · have hE := zE_q q1 2 hE
    have hq := zqin_q (x := x) q1 2
    refine zs_astore hE (i := 4) (by decide) (zcat_rf a4) (lv' := [(0, va_rf a1), (1, .int a2), (2, .int a3), (3, va_rf a4)]) rfl dX0_stepsAgain_13 ?_
    refine zs_iconst hE (v := (1 : Int32)) (by decide) dX0_stepsAgain_15 ?_
    exact zs_iret hE dX0_stepsAgain_16
  · show zS _ 8 _ [.int r2, .int (0 : Int32), va_rf a4] _
    refine zs_i2l hE dX0_stepsAgain_8 ?_
    refine zs_astJ hE dX0_stepsAgain_9 ?_
    refine zs_goto hE 17 (by decide) dX0_stepsAgain_10 ?_
    refine zs_iconst hE (v := (0 : Int32)) (by decide) dX0_stepsAgain_17 ?_
    exact zs_iret hE dX0_stepsAgain_18
theorem hd_X0_stepsAgain : (yX0_stepsAgain).cls ≠ "java/lang/invoke/MethodHandle" ∧ (yX0_stepsAgain).cls ≠ "java/lang/invoke/VarHandle" ∧ (parseMethodDescriptor (yX0_stepsAgain).desc).map (fun d => d.parameters.length) = some 4 := by decide +kernel
theorem met_X0_stepsAgain (K : ZK) (a1 : Option Nat) (a2 : Int32) (a3 : Int32) (a4 : Option Nat) : zMeth K yX0_stepsAgain (zwsW yX0_stepsAgain cX0_stepsAgain 5 (Option.some Jvm.ClassFile.FieldType.int) [((0 : Nat), (10 : Nat), (13 : Nat), (52 : Nat))]) 12 336 [va_rf a1, .int a2, .int a3, va_rf a4] encI (s_X0_stepsAgain K a1 a2 a3 a4) :=
  fun l G hl hK => zmet_ofH hl hK (by decide +kernel) rfl rfl (by simp [zsl_nil, zsl_rf, zsl_r, zsl_i, zsl_j, zsl_f, zsl_d]) (fun x hE => by simp only [zla_nil, zla_rf, zla_r, zla_i, zla_j, zla_f, zla_d, Nat.reduceAdd]; exact sm_X0_stepsAgain hE a1 a2 a3 a4)
theorem sm_X1_isAddress {x : ZX Int32} {K : ZK} (hE : zE x K cX1_isAddress RX1 "isAddress" 1 2 122 encI (Option.some Jvm.ClassFile.FieldType.boolean) []) (a1 : Int32) : zS x 0 [(0, .int a1)] [] (s_X1_isAddress K a1) := by
  unfold s_X1_isAddress
  refine zs_iload_n hE 0 rfl rfl dX1_isAddress_0 ?_
  refine zs_iconst hE (v := (0 : Int32)) (by decide) dX1_isAddress_1 ?_
  refine zs_bipush hE (v := (99 : Int32)) (by decide) dX1_isAddress_2 ?_
  refine zs_callS hE (As := [.int a1, .int (0 : Int32), .int (99 : Int32)]) (encA := encI) (met_X1_isBetween K a1 (0 : Int32) (99 : Int32)) q1776 q95 q1774 q1775 hd_X1_isBetween (by decide) (by decide) rfl (by simp [zcat_rf, zcat_i, zcat_j, zcat_f, zcat_d]) (fun z hz => by cases hz) dX1_isAddress_4 (fun r1 => ?_)
  show zS _ 7 _ [.int r1] _
  exact zs_zretA hE dX1_isAddress_7
theorem hd_X1_isAddress : (yX1_isAddress).cls ≠ "java/lang/invoke/MethodHandle" ∧ (yX1_isAddress).cls ≠ "java/lang/invoke/VarHandle" ∧ (parseMethodDescriptor (yX1_isAddress).desc).map (fun d => d.parameters.length) = some 1 := by decide +kernel
theorem met_X1_isAddress (K : ZK) (a1 : Int32) : zMeth K yX1_isAddress (zws yX1_isAddress cX1_isAddress 1 (Option.some Jvm.ClassFile.FieldType.boolean)) 2 122 [.int a1] encI (s_X1_isAddress K a1) :=
  fun l G hl hK => zmet_of hl hK (by decide +kernel) rfl rfl (by simp [zsl_nil, zsl_rf, zsl_r, zsl_i, zsl_j, zsl_f, zsl_d]) (fun x hE => by simp only [zla_nil, zla_rf, zla_r, zla_i, zla_j, zla_f, zla_d, Nat.reduceAdd]; exact sm_X1_isAddress hE a1)
theorem sm_X1_isInRing {x : ZX Int32} {K : ZK} (hE : zE x K cX1_isInRing RX1 "isInRing" 2 7 229 encI (Option.some Jvm.ClassFile.FieldType.boolean) []) (this : Nat) (a1 : Int32) : zS x 0 [(0, va_rf (some this)), (1, .int a1)] [] (s_X1_isInRing K this a1) := by
  unfold s_X1_isInRing
  refine zs_iload_n hE 1 rfl rfl dX1_isInRing_0 ?_
  refine zs_callS hE (As := [.int a1]) (encA := encI) (met_X1_isAddress K a1) q2360 q95 q2358 q2359 hd_X1_isAddress (by decide) (by decide) rfl (by simp [zcat_rf, zcat_i, zcat_j, zcat_f, zcat_d]) (fun z hz => by cases hz) dX1_isInRing_1 (fun r1 => ?_)
  show zS _ 4 _ [.int r1] _
  refine zs_callS hE (As := [.int r1]) (encA := encV) (met_X1_check K r1) q2140 q95 q2138 q2139 hd_X1_check (by decide) (by decide) rfl (by simp [zcat_rf, zcat_i, zcat_j, zcat_f, zcat_d]) (fun z hz => by cases hz) dX1_isInRing_4 (fun _ => ?_)
  show zS _ 7 _ [] _
  refine zs_aload_n hE 0 rfl rfl dX1_isInRing_7 ?_
  refine zs_iload_n hE 1 rfl rfl dX1_isInRing_8 ?_
  refine zs_callV hE (As := [.int a1]) (encA := encI) (ci := 24) rfl (fun y0 => met_X1_isStation K y0 a1) q1818 q95 q1815 q1817 (zq qs12) hd_X1_isStation (by decide) (by decide) rfl (by simp [zcat_rf, zcat_i, zcat_j, zcat_f, zcat_d]) (fun z hz => by cases hz) dX1_isInRing_9 (fun r2 => ?_)
  show zS _ 12 _ [.int r2] _
  exact zs_zretA hE dX1_isInRing_12
theorem hd_X1_isInRing : (yX1_isInRing).cls ≠ "java/lang/invoke/MethodHandle" ∧ (yX1_isInRing).cls ≠ "java/lang/invoke/VarHandle" ∧ (parseMethodDescriptor (yX1_isInRing).desc).map (fun d => d.parameters.length) = some 1 := by decide +kernel
theorem met_X1_isInRing (K : ZK) (this : Nat) (a1 : Int32) : zMeth K yX1_isInRing (zws yX1_isInRing cX1_isInRing 2 (Option.some Jvm.ClassFile.FieldType.boolean)) 7 229 [.ref this, .int a1] encI (s_X1_isInRing K this a1) :=
  fun l G hl hK => zmet_of hl hK (by decide +kernel) rfl rfl (by simp [zsl_nil, zsl_rf, zsl_r, zsl_i, zsl_j, zsl_f, zsl_d]) (fun x hE => by simp only [zla_nil, zla_rf, zla_r, zla_i, zla_j, zla_f, zla_d, Nat.reduceAdd]; exact sm_X1_isInRing hE this a1)
theorem sm_X0_isInRing_J15 {x : ZX Int32} {K : ZK} (hE : zE x K cX0_isInRing RX0 "isInRing" 4 8 250 encI (Option.some Jvm.ClassFile.FieldType.int) (tableOf [((0 : Nat), (16 : Nat), (19 : Nat), (41 : Nat))])) (t0 : Int64) (t1 : Int32) (t2 : Option Nat) : zS x 15 [] [.long t0, .int t1, va_rf t2] (s_X0_isInRing_J15 K t0 t1 t2) := by
  unfold s_X0_isInRing_J15
  refine zs_astJ hE dX0_isInRing_15 ?_
  refine zs_goto hE 22 (by decide) dX0_isInRing_16 ?_
  refine zs_iconst hE (v := (0 : Int32)) (by decide) dX0_isInRing_22 ?_
  exact zs_iret hE dX0_isInRing_23
theorem sm_X0_isInRing {x : ZX Int32} {K : ZK} (hE : zE x K cX0_isInRing RX0 "isInRing" 4 8 250 encI (Option.some Jvm.ClassFile.FieldType.int) (tableOf [((0 : Nat), (16 : Nat), (19 : Nat), (41 : Nat))])) (a1 : Option Nat) (a2 : Int32) (a3 : Option Nat) : zS x 0 [(0, va_rf a1), (1, .int a2), (2, va_rf a3)] [] (s_X0_isInRing K a1 a2 a3) := by
  unfold s_X0_isInRing
  refine zs_aload_n hE 2 rfl rfl dX0_isInRing_0 ?_
  refine zs_iconst hE (v := (0 : Int32)) (by decide) dX0_isInRing_1 ?_
  refine zs_aload_n hE 0 rfl rfl dX0_isInRing_2 ?_
  refine zs_iload_n hE 1 rfl rfl dX0_isInRing_3 ?_
  refine zs_callVT hE (As := [.int a2]) (encA := encI) (ci := 24) rfl (fun y0 => met_X1_isInRing K y0 a2) q2357 q95 q2354 q2355 (zq q2356) hd_X1_isInRing (by decide) (by decide) rfl (by simp [zcat_rf, zcat_i, zcat_j, zcat_f, zcat_d]) (zhl_cons (zhnd (tableOf []) (tableOf []) ⟨0, 16, 19, 41⟩ rfl (fun w hw => by cases hw) (by decide) (by decide) q2133 (zn q1287 rfl) (fun q1 => ?_)) zhl_nil) dX0_isInRing_4 (fun r2 => ?_)
  · have hE := zE_q q1 1 hE
    have hq := zqin_q (x := x) q1 1
    refine zs_astore_n hE (i := 3) (q := 3) rfl (by decide) (zcat_rf a3) (lv' := [(0, va_rf a1), (1, .int a2), (2, va_rf a3)]) rfl dX0_isInRing_19 ?_
    refine zs_iconst hE (v := (1 : Int32)) (by decide) dX0_isInRing_20 ?_
    exact zs_iret hE dX0_isInRing_21
  · show zS _ 7 _ [.int r2, .int (0 : Int32), va_rf a3] _
    refine zs_if_eq hE 14 (by decide) dX0_isInRing_7 ?_ ?_
    · refine zs_lconst hE (v := (0 : Int64)) (by decide) dX0_isInRing_14 ?_
      refine zs_sub [] rfl ?_
      exact sm_X0_isInRing_J15 hE (0 : Int64) (0 : Int32) a3
    · refine zs_lconst hE (v := (1 : Int64)) (by decide) dX0_isInRing_10 ?_
      refine zs_goto hE 15 (by decide) dX0_isInRing_11 ?_
      refine zs_sub [] rfl ?_
      exact sm_X0_isInRing_J15 hE (1 : Int64) (0 : Int32) a3
theorem hd_X0_isInRing : (yX0_isInRing).cls ≠ "java/lang/invoke/MethodHandle" ∧ (yX0_isInRing).cls ≠ "java/lang/invoke/VarHandle" ∧ (parseMethodDescriptor (yX0_isInRing).desc).map (fun d => d.parameters.length) = some 3 := by decide +kernel
theorem met_X0_isInRing (K : ZK) (a1 : Option Nat) (a2 : Int32) (a3 : Option Nat) : zMeth K yX0_isInRing (zwsW yX0_isInRing cX0_isInRing 4 (Option.some Jvm.ClassFile.FieldType.int) [((0 : Nat), (16 : Nat), (19 : Nat), (41 : Nat))]) 8 250 [va_rf a1, .int a2, va_rf a3] encI (s_X0_isInRing K a1 a2 a3) :=
  fun l G hl hK => zmet_ofH hl hK (by decide +kernel) rfl rfl (by simp [zsl_nil, zsl_rf, zsl_r, zsl_i, zsl_j, zsl_f, zsl_d]) (fun x hE => by simp only [zla_nil, zla_rf, zla_r, zla_i, zla_j, zla_f, zla_d, Nat.reduceAdd]; exact sm_X0_isInRing hE a1 a2 a3)
theorem sm_X2_canTake {x : ZX Int32} {K : ZK} (hE : zE x K cX2_canTake RX2 "canTake" 2 5 184 encI (Option.some Jvm.ClassFile.FieldType.boolean) []) (this : Nat) (a1 : Option Nat) : zS x 0 [(0, va_rf (some this)), (1, va_rf a1)] [] (s_X2_canTake K this a1) := by
  unfold s_X2_canTake
  refine zs_aload_n hE 0 rfl rfl dX2_canTake_0 ?_
  refine zs_getI hE (ci := 34) (k := 1) rfl (by decide) in_X2 (Or.inl q219) (Or.inl rfl) dX2_canTake_1 (fun v1 => ?_)
  refine zs_iconst hE (v := (1 : Int32)) (by decide) dX2_canTake_4 ?_
  refine zs_icmp_ne hE 23 (by decide) dX2_canTake_5 ?_ ?_
  · refine zs_aload_n hE 1 rfl rfl dX2_canTake_8 ?_
    refine zs_callV hE (As := []) (encA := encI) (ci := 37) rfl (fun y0 => met_X5_rank K y0) q2106 q131 q2372 q2104 (zq q2105) hd_X5_rank (by decide) (by decide) rfl (by simp [zcat_rf, zcat_i, zcat_j, zcat_f, zcat_d]) (fun z hz => by cases hz) dX2_canTake_9 (fun r2 => ?_)
    show zS _ 12 _ [.int r2] _
    refine zs_aload_n hE 0 rfl rfl dX2_canTake_12 ?_
    refine zs_getI hE (ci := 34) (k := 3) rfl (by decide) in_X2 (Or.inl q225) (Or.inl rfl) dX2_canTake_13 (fun v3 => ?_)
    refine zs_icmp_lt hE 23 (by decide) dX2_canTake_16 ?_ ?_
    · refine zs_iconst hE (v := (0 : Int32)) (by decide) dX2_canTake_23 ?_
      exact zs_zret hE rfl dX2_canTake_24
    · refine zs_iconst hE (v := (1 : Int32)) (by decide) dX2_canTake_19 ?_
      refine zs_goto hE 24 (by decide) dX2_canTake_20 ?_
      exact zs_zret hE rfl dX2_canTake_24
  · refine zs_iconst hE (v := (0 : Int32)) (by decide) dX2_canTake_23 ?_
    exact zs_zret hE rfl dX2_canTake_24
theorem hd_X2_canTake : (yX2_canTake).cls ≠ "java/lang/invoke/MethodHandle" ∧ (yX2_canTake).cls ≠ "java/lang/invoke/VarHandle" ∧ (parseMethodDescriptor (yX2_canTake).desc).map (fun d => d.parameters.length) = some 1 := by decide +kernel
theorem met_X2_canTake (K : ZK) (this : Nat) (a1 : Option Nat) : zMeth K yX2_canTake (zws yX2_canTake cX2_canTake 2 (Option.some Jvm.ClassFile.FieldType.boolean)) 5 184 [.ref this, va_rf a1] encI (s_X2_canTake K this a1) :=
  fun l G hl hK => zmet_of hl hK (by decide +kernel) rfl rfl (by simp [zsl_nil, zsl_rf, zsl_r, zsl_i, zsl_j, zsl_f, zsl_d]) (fun x hE => by simp only [zla_nil, zla_rf, zla_r, zla_i, zla_j, zla_f, zla_d, Nat.reduceAdd]; exact sm_X2_canTake hE this a1)
theorem sm_X1_canTake {x : ZX Int32} {K : ZK} (hE : zE x K cX1_canTake RX1 "canTake" 2 8 250 encI (Option.some Jvm.ClassFile.FieldType.boolean) []) (this : Nat) (a1 : Int32) : zS x 0 [(0, va_rf (some this)), (1, .int a1)] [] (s_X1_canTake K this a1) := by
  unfold s_X1_canTake
  refine zs_aload_n hE 0 rfl rfl dX1_canTake_0 ?_
  refine zs_getR hE (ci := 24) (k := 0) rfl (by decide) in_X1 (Or.inl q391) (Or.inl rfl) dX1_canTake_1 (fun v1 => ?_)
  refine zs_aload_n hE 0 rfl rfl dX1_canTake_4 ?_
  refine zs_iload_n hE 1 rfl rfl dX1_canTake_5 ?_
  refine zs_callV hE (As := [.int a1]) (encA := encR) (ci := 24) rfl (fun y0 => met_X1_station0 K y0 a1) q2172 q95 q2169 q2171 (zq qs28) hd_X1_station0 (by decide) (by decide) rfl (by simp [zcat_rf, zcat_i, zcat_j, zcat_f, zcat_d]) (fun z hz => by cases hz) dX1_canTake_6 (fun r2 => ?_)
  show zS _ 9 _ [va_rf r2, va_rf v1] _
  refine zs_callV hE (As := [va_rf r2]) (encA := encI) (ci := 34) rfl (fun y0 => met_X2_canTake K y0 r2) q2371 q96 q2368 q2369 (zq q2370) hd_X2_canTake (by decide) (by decide) rfl (by simp [zcat_rf, zcat_i, zcat_j, zcat_f, zcat_d]) (fun z hz => by cases hz) dX1_canTake_9 (fun r3 => ?_)
  show zS _ 12 _ [.int r3] _
  exact zs_zretA hE dX1_canTake_12
theorem hd_X1_canTake : (yX1_canTake).cls ≠ "java/lang/invoke/MethodHandle" ∧ (yX1_canTake).cls ≠ "java/lang/invoke/VarHandle" ∧ (parseMethodDescriptor (yX1_canTake).desc).map (fun d => d.parameters.length) = some 1 := by decide +kernel
theorem met_X1_canTake (K : ZK) (this : Nat) (a1 : Int32) : zMeth K yX1_canTake (zws yX1_canTake cX1_canTake 2 (Option.some Jvm.ClassFile.FieldType.boolean)) 8 250 [.ref this, .int a1] encI (s_X1_canTake K this a1) :=
  fun l G hl hK => zmet_of hl hK (by decide +kernel) rfl rfl (by simp [zsl_nil, zsl_rf, zsl_r, zsl_i, zsl_j, zsl_f, zsl_d]) (fun x hE => by simp only [zla_nil, zla_rf, zla_r, zla_i, zla_j, zla_f, zla_d, Nat.reduceAdd]; exact sm_X1_canTake hE this a1)
theorem sm_X0_canTake_J15 {x : ZX Int32} {K : ZK} (hE : zE x K cX0_canTake RX0 "canTake" 4 9 271 encI (Option.some Jvm.ClassFile.FieldType.int) (tableOf [((0 : Nat), (16 : Nat), (19 : Nat), (52 : Nat))])) (t0 : Int64) (t1 : Int32) (t2 : Option Nat) : zS x 15 [] [.long t0, .int t1, va_rf t2] (s_X0_canTake_J15 K t0 t1 t2) := by
  unfold s_X0_canTake_J15
  refine zs_astJ hE dX0_canTake_15 ?_
  refine zs_goto hE 22 (by decide) dX0_canTake_16 ?_
  refine zs_iconst hE (v := (0 : Int32)) (by decide) dX0_canTake_22 ?_
  exact zs_iret hE dX0_canTake_23
theorem sm_X0_canTake {x : ZX Int32} {K : ZK} (hE : zE x K cX0_canTake RX0 "canTake" 4 9 271 encI (Option.some Jvm.ClassFile.FieldType.int) (tableOf [((0 : Nat), (16 : Nat), (19 : Nat), (52 : Nat))])) (a1 : Option Nat) (a2 : Int32) (a3 : Option Nat) : zS x 0 [(0, va_rf a1), (1, .int a2), (2, va_rf a3)] [] (s_X0_canTake K a1 a2 a3) := by
  unfold s_X0_canTake
  refine zs_aload_n hE 2 rfl rfl dX0_canTake_0 ?_
  refine zs_iconst hE (v := (0 : Int32)) (by decide) dX0_canTake_1 ?_
  refine zs_aload_n hE 0 rfl rfl dX0_canTake_2 ?_
  refine zs_iload_n hE 1 rfl rfl dX0_canTake_3 ?_
  refine zs_callVT hE (As := [.int a2]) (encA := encI) (ci := 24) rfl (fun y0 => met_X1_canTake K y0 a2) q2367 q95 q2364 q2365 (zq q2366) hd_X1_canTake (by decide) (by decide) rfl (by simp [zcat_rf, zcat_i, zcat_j, zcat_f, zcat_d]) (zhl_cons (zhnd (tableOf []) (tableOf []) ⟨0, 16, 19, 52⟩ rfl (fun w hw => by cases hw) (by decide) (by decide) q2162 (zn q1987 rfl) (fun q1 => ?_)) zhl_nil) dX0_canTake_4 (fun r2 => ?_)
  · have hE := zE_q q1 2 hE
    have hq := zqin_q (x := x) q1 2
    refine zs_astore_n hE (i := 3) (q := 3) rfl (by decide) (zcat_rf a3) (lv' := [(0, va_rf a1), (1, .int a2), (2, va_rf a3)]) rfl dX0_canTake_19 ?_
    refine zs_iconst hE (v := (1 : Int32)) (by decide) dX0_canTake_20 ?_
    exact zs_iret hE dX0_canTake_21
  · show zS _ 7 _ [.int r2, .int (0 : Int32), va_rf a3] _
    refine zs_if_eq hE 14 (by decide) dX0_canTake_7 ?_ ?_
    · refine zs_lconst hE (v := (0 : Int64)) (by decide) dX0_canTake_14 ?_
      refine zs_sub [] rfl ?_
      exact sm_X0_canTake_J15 hE (0 : Int64) (0 : Int32) a3
    · refine zs_lconst hE (v := (1 : Int64)) (by decide) dX0_canTake_10 ?_
      refine zs_goto hE 15 (by decide) dX0_canTake_11 ?_
      refine zs_sub [] rfl ?_
      exact sm_X0_canTake_J15 hE (1 : Int64) (0 : Int32) a3
theorem hd_X0_canTake : (yX0_canTake).cls ≠ "java/lang/invoke/MethodHandle" ∧ (yX0_canTake).cls ≠ "java/lang/invoke/VarHandle" ∧ (parseMethodDescriptor (yX0_canTake).desc).map (fun d => d.parameters.length) = some 3 := by decide +kernel
theorem met_X0_canTake (K : ZK) (a1 : Option Nat) (a2 : Int32) (a3 : Option Nat) : zMeth K yX0_canTake (zwsW yX0_canTake cX0_canTake 4 (Option.some Jvm.ClassFile.FieldType.int) [((0 : Nat), (16 : Nat), (19 : Nat), (52 : Nat))]) 9 271 [va_rf a1, .int a2, va_rf a3] encI (s_X0_canTake K a1 a2 a3) :=
  fun l G hl hK => zmet_ofH hl hK (by decide +kernel) rfl rfl (by simp [zsl_nil, zsl_rf, zsl_r, zsl_i, zsl_j, zsl_f, zsl_d]) (fun x hE => by simp only [zla_nil, zla_rf, zla_r, zla_i, zla_j, zla_f, zla_d, Nat.reduceAdd]; exact sm_X0_canTake hE a1 a2 a3)
theorem sm_X1_whoTakes_B37 {x : ZX Int32} {K : ZK} (hE : zE x K cX1_whoTakes RX1 "whoTakes" 3 10 293 encI (Option.some Jvm.ClassFile.FieldType.int) []) (x0 : Nat) (x1 : Option Nat) (self37 : Unit → ZP Int32) (hs37 : ∀ v : Unit, zS x 37 [(0, va_rf (some x0)), (1, va_rf x1)] [] (self37 v)) : zS x 37 [(0, va_rf (some x0)), (1, va_rf x1)] [] (s_X1_whoTakes_B37 K x0 x1 self37) := by
  unfold s_X1_whoTakes_B37
  refine zs_aload_n hE 1 rfl rfl dX1_whoTakes_37 ?_
  refine zs_callF hE (xx := ⟨"java/util/Iterator", "hasNext", "()Z"⟩) (As := []) (encA := encI) (ci := 25) rfl (fun y0 => met_X10_hasNext K y0) q853 q149 q1389 (List.mem_of_getElem? (i := 5) rfl) q851 q849 hdx_h2 (by decide) (by decide) rfl (by simp [zcat_rf, zcat_i, zcat_j, zcat_f, zcat_d]) (fun z hz => by cases hz) dX1_whoTakes_38 (fun r8 => ?_)
  show zS _ 43 _ [.int r8] _
  refine zs_if_eq hE 75 (by decide) dX1_whoTakes_43 ?_ ?_
  · exact zs_throw hE (ik := 63) (ic := 65) (ci := 3) (by decide) (by decide +kernel) q2157 q130 zth_3 zthg_3 (by decide) (by decide) (fun z hz => by cases hz) dX1_whoTakes_75 dX1_whoTakes_78 dX1_whoTakes_79 dX1_whoTakes_82
  · refine zs_aload_n hE 1 rfl rfl dX1_whoTakes_46 ?_
    refine zs_callF hE (xx := ⟨"java/util/Iterator", "next", "()Ljava/lang/Object;"⟩) (As := []) (encA := encR) (ci := 25) rfl (fun y0 => met_X10_next K y0) q893 q149 q1391 (List.mem_of_getElem? (i := 6) rfl) q891 q889 hdx_h4 (by decide) (by decide) rfl (by simp [zcat_rf, zcat_i, zcat_j, zcat_f, zcat_d]) (fun z hz => by cases hz) dX1_whoTakes_47 (fun r9 => ?_)
    show zS _ 52 _ [va_rf r9] _
    refine zs_cast hE q1392 (zc1 rfl (Or.inl rfl)) dX1_whoTakes_52 ?_
    refine zs_astore_n hE (i := 2) (q := 2) rfl (by decide) (zcat_rf x1) (lv' := [(0, va_rf (some x0)), (1, va_rf x1)]) rfl dX1_whoTakes_55 ?_
    refine zs_aload_n hE 1 rfl rfl dX1_whoTakes_56 ?_
    refine zs_getR hE (ci := 24) (k := 0) rfl (by decide) in_X1 (Or.inl q391) (Or.inl rfl) dX1_whoTakes_57 (fun v10 => ?_)
    refine zs_aload_n hE 0 rfl rfl dX1_whoTakes_60 ?_
    refine zs_callV hE (As := [va_rf r9]) (encA := encI) (ci := 34) rfl (fun y0 => met_X2_canTake K y0 r9) q2371 q96 q2368 q2369 (zq q2370) hd_X2_canTake (by decide) (by decide) rfl (by simp [zcat_rf, zcat_i, zcat_j, zcat_f, zcat_d]) (fun z hz => by cases hz) dX1_whoTakes_61 (fun r11 => ?_)
    show zS _ 64 _ [.int r11] _
    refine zs_if_eq hE 72 (by decide) dX1_whoTakes_64 ?_ ?_
    · refine zs_goto hE 37 (by decide) dX1_whoTakes_72 ?_
      refine zs_sub [1, 2] rfl ?_
      exact hs37 ()
    · refine zs_aload_n hE 0 rfl rfl dX1_whoTakes_67 ?_
      refine zs_getI hE (ci := 37) (k := 0) rfl (by decide) in_X5 (Or.inr ⟨_, zn q1550 rfl⟩) (Or.inl rfl) dX1_whoTakes_68 (fun v12 => ?_)
      exact zs_iret hE dX1_whoTakes_71
theorem sm_X1_whoTakes_L37 {x : ZX Int32} {K : ZK} (hE : zE x K cX1_whoTakes RX1 "whoTakes" 3 10 293 encI (Option.some Jvm.ClassFile.FieldType.int) []) (x0 : Nat) (x1 : Option Nat) (v : Unit) : zS x 37 [(0, va_rf (some x0)), (1, va_rf x1)] [] (s_X1_whoTakes_L37 K x0 x1 v) := by
  unfold s_X1_whoTakes_L37
  exact zs_loop (lvf := fun v => [(0, va_rf (some x0)), (1, va_rf x1)]) (fun self37 hs37 v => sm_X1_whoTakes_B37 hE x0 x1 self37 hs37) v
theorem sm_X1_whoTakes_J16 {x : ZX Int32} {K : ZK} (hE : zE x K cX1_whoTakes RX1 "whoTakes" 3 10 293 encI (Option.some Jvm.ClassFile.FieldType.int) []) (x0 : Nat) (t0 : Int32) : zS x 16 [(0, va_rf (some x0))] [.int t0] (s_X1_whoTakes_J16 K x0 t0) := by
  unfold s_X1_whoTakes_J16
  refine zs_callS hE (As := [.int t0]) (encA := encV) (met_X1_checkElement K t0) q2156 q95 q2154 q2155 hd_X1_checkElement (by decide) (by decide) rfl (by simp [zcat_rf, zcat_i, zcat_j, zcat_f, zcat_d]) (fun z hz => by cases hz) dX1_whoTakes_16 (fun _ => ?_)
  show zS _ 19 _ [] _
  refine zs_aload_n hE 0 rfl rfl dX1_whoTakes_19 ?_
  refine zs_getR hE (ci := 24) (k := 0) rfl (by decide) in_X1 (Or.inl q391) (Or.inl rfl) dX1_whoTakes_20 (fun v3 => ?_)
  refine zs_aload_n hE 0 rfl rfl dX1_whoTakes_23 ?_
  refine zs_getR hE (ci := 24) (k := 0) rfl (by decide) in_X1 (Or.inl q391) (Or.inl rfl) dX1_whoTakes_24 (fun v4 => ?_)
  refine zs_getI hE (ci := 34) (k := 2) rfl (by decide) in_X2 (Or.inr ⟨_, zn q224 rfl⟩) (Or.inl rfl) dX1_whoTakes_27 (fun v5 => ?_)
  refine zs_callV hE (As := [.int v5]) (encA := encR) (ci := 34) rfl (fun y0 => met_X2_round K y0 v5) q2237 q96 q2234 q2235 (zq q2236) hd_X2_round (by decide) (by decide) rfl (by simp [zcat_rf, zcat_i, zcat_j, zcat_f, zcat_d]) (fun z hz => by cases hz) dX1_whoTakes_30 (fun r6 => ?_)
  show zS _ 33 _ [va_rf r6] _
  refine zs_callV hE (As := []) (encA := encR) (ci := 41) rfl (fun y0 => met_X9_iterator K y0) q2256 q148 q2253 q2254 (zq q2255) hd_X9_iterator (by decide) (by decide) rfl (by simp [zcat_rf, zcat_i, zcat_j, zcat_f, zcat_d]) (fun z hz => by cases hz) dX1_whoTakes_33 (fun r7 => ?_)
  show zS _ 36 _ [va_rf r7] _
  refine zs_astore_n hE (i := 1) (q := 1) rfl (by decide) (zcat_rf (some x0)) (lv' := [(0, va_rf (some x0))]) rfl dX1_whoTakes_36 ?_
  refine zs_sub [1, 0] rfl ?_
  exact sm_X1_whoTakes_L37 hE x0 r7 ()
theorem sm_X1_whoTakes {x : ZX Int32} {K : ZK} (hE : zE x K cX1_whoTakes RX1 "whoTakes" 3 10 293 encI (Option.some Jvm.ClassFile.FieldType.int) []) (this : Nat) : zS x 0 [(0, va_rf (some this))] [] (s_X1_whoTakes K this) := by
  unfold s_X1_whoTakes
  refine zs_aload_n hE 0 rfl rfl dX1_whoTakes_0 ?_
  refine zs_getR hE (ci := 24) (k := 0) rfl (by decide) in_X1 (Or.inl q391) (Or.inl rfl) dX1_whoTakes_1 (fun v1 => ?_)
  refine zs_getI hE (ci := 34) (k := 1) rfl (by decide) in_X2 (Or.inr ⟨_, zn q221 rfl⟩) (Or.inl rfl) dX1_whoTakes_4 (fun v2 => ?_)
  refine zs_iconst hE (v := (1 : Int32)) (by decide) dX1_whoTakes_7 ?_
  refine zs_icmp_ne hE 15 (by decide) dX1_whoTakes_8 ?_ ?_
  · refine zs_iconst hE (v := (1 : Int32)) (by decide) dX1_whoTakes_11 ?_
    refine zs_goto hE 16 (by decide) dX1_whoTakes_12 ?_
    exact sm_X1_whoTakes_J16 hE this (1 : Int32)
  · refine zs_iconst hE (v := (0 : Int32)) (by decide) dX1_whoTakes_15 ?_
    exact sm_X1_whoTakes_J16 hE this (0 : Int32)
theorem hd_X1_whoTakes : (yX1_whoTakes).cls ≠ "java/lang/invoke/MethodHandle" ∧ (yX1_whoTakes).cls ≠ "java/lang/invoke/VarHandle" ∧ (parseMethodDescriptor (yX1_whoTakes).desc).map (fun d => d.parameters.length) = some 0 := by decide +kernel
theorem met_X1_whoTakes (K : ZK) (this : Nat) : zMeth K yX1_whoTakes (zws yX1_whoTakes cX1_whoTakes 3 (Option.some Jvm.ClassFile.FieldType.int)) 10 293 [.ref this] encI (s_X1_whoTakes K this) :=
  fun l G hl hK => zmet_of hl hK (by decide +kernel) rfl rfl (by simp [zsl_nil, zsl_rf, zsl_r, zsl_i, zsl_j, zsl_f, zsl_d]) (fun x hE => by simp only [zla_nil, zla_rf, zla_r, zla_i, zla_j, zla_f, zla_d, Nat.reduceAdd]; exact sm_X1_whoTakes hE this)
theorem sm_X0_whoTakes {x : ZX Int32} {K : ZK} (hE : zE x K cX0_whoTakes RX0 "whoTakes" 3 11 315 encI (Option.some Jvm.ClassFile.FieldType.int) (tableOf [((0 : Nat), (8 : Nat), (11 : Nat), (46 : Nat))])) (a1 : Option Nat) (a2 : Option Nat) : zS x 0 [(0, va_rf a1), (1, va_rf a2)] [] (s_X0_whoTakes K a1 a2) := by
  unfold s_X0_whoTakes
  refine zs_aload_n hE 1 rfl rfl dX0_whoTakes_0 ?_
  refine zs_iconst hE (v := (0 : Int32)) (by decide) dX0_whoTakes_1 ?_
  refine zs_aload_n hE 0 rfl rfl dX0_whoTakes_2 ?_
  refine zs_callVT hE (As := []) (encA := encI) (ci := 24) rfl (fun y0 => met_X1_whoTakes K y0) q2379 q95 q2376 q2377 (zq q2378) hd_X1_whoTakes (by decide) (by decide) rfl (by simp [zcat_rf, zcat_i, zcat_j, zcat_f, zcat_d]) (zhl_cons (zhnd (tableOf []) (tableOf []) ⟨0, 8, 11, 46⟩ rfl (fun w hw => by cases hw) (by decide) (by decide) q2149 (zn q940 rfl) (fun q1 => ?_)) zhl_nil) dX0_whoTakes_3 (fun r2 => ?_)
  · have hE := zE_q q1 3 hE
    have hq := zqin_q (x := x) q1 3
    refine zs_astore_n hE (i := 2) (q := 2) rfl (by decide) (zcat_rf a2) (lv' := [(0, va_rf a1), (1, va_rf a2)]) rfl dX0_whoTakes_11 ?_
    refine zs_iconst hE (v := (1 : Int32)) (by decide) dX0_whoTakes_12 ?_
    exact zs_iret hE dX0_whoTakes_13
  · show zS _ 6 _ [.int r2, .int (0 : Int32), va_rf a2] _
    refine zs_i2l hE dX0_whoTakes_6 ?_
    refine zs_astJ hE dX0_whoTakes_7 ?_
    refine zs_goto hE 14 (by decide) dX0_whoTakes_8 ?_
    refine zs_iconst hE (v := (0 : Int32)) (by decide) dX0_whoTakes_14 ?_
    exact zs_iret hE dX0_whoTakes_15
theorem hd_X0_whoTakes : (yX0_whoTakes).cls ≠ "java/lang/invoke/MethodHandle" ∧ (yX0_whoTakes).cls ≠ "java/lang/invoke/VarHandle" ∧ (parseMethodDescriptor (yX0_whoTakes).desc).map (fun d => d.parameters.length) = some 2 := by decide +kernel
theorem met_X0_whoTakes (K : ZK) (a1 : Option Nat) (a2 : Option Nat) : zMeth K yX0_whoTakes (zwsW yX0_whoTakes cX0_whoTakes 3 (Option.some Jvm.ClassFile.FieldType.int) [((0 : Nat), (8 : Nat), (11 : Nat), (46 : Nat))]) 11 315 [va_rf a1, va_rf a2] encI (s_X0_whoTakes K a1 a2) :=
  fun l G hl hK => zmet_ofH hl hK (by decide +kernel) rfl rfl (by simp [zsl_nil, zsl_rf, zsl_r, zsl_i, zsl_j, zsl_f, zsl_d]) (fun x hE => by simp only [zla_nil, zla_rf, zla_r, zla_i, zla_j, zla_f, zla_d, Nat.reduceAdd]; exact sm_X0_whoTakes hE a1 a2)
theorem sm_X1_receivedIn_J82 {x : ZX Int32} {K : ZK} (hE : zE x K cX1_receivedIn RX1 "receivedIn" 5 10 298 encI (Option.some Jvm.ClassFile.FieldType.int) []) (x3 : Option Nat) (x4 : Int32) : zS x 82 [(3, va_rf x3), (4, .int x4)] [] (s_X1_receivedIn_J82 K x3 x4) := by
  unfold s_X1_receivedIn_J82
  refine zs_aload_n hE 0 rfl rfl dX1_receivedIn_82 ?_
  refine zs_getI hE (ci := 34) (k := 24) rfl (by decide) in_X2 (Or.inr ⟨_, zn q283 rfl⟩) (Or.inl rfl) dX1_receivedIn_83 (fun v5 => ?_)
  refine zs_callS hE (As := [.int v5]) (encA := encV) (met_X1_checkElement K v5) q2156 q95 q2154 q2155 hd_X1_checkElement (by decide) (by decide) rfl (by simp [zcat_rf, zcat_i, zcat_j, zcat_f, zcat_d]) (fun z hz => by cases hz) dX1_receivedIn_86 (fun _ => ?_)
  show zS _ 89 _ [] _
  refine zs_iload hE 1 rfl dX1_receivedIn_89 ?_
  exact zs_iret hE dX1_receivedIn_91
theorem sm_X1_receivedIn_B57 {x : ZX Int32} {K : ZK} (hE : zE x K cX1_receivedIn RX1 "receivedIn" 5 10 298 encI (Option.some Jvm.ClassFile.FieldType.int) []) (x3 : Option Nat) (self57 : Int32 → ZP Int32) (hs57 : ∀ v : Int32, zS x 57 [(3, va_rf x3), (4, .int v)] [] (self57 v)) (x4 : Int32) : zS x 57 [(3, va_rf x3), (4, .int x4)] [] (s_X1_receivedIn_B57 K x3 self57 x4) := by
  unfold s_X1_receivedIn_B57
  refine zs_iload hE 1 rfl dX1_receivedIn_57 ?_
  refine zs_sipush hE (v := (200 : Int32)) (by decide) dX1_receivedIn_59 ?_
  refine zs_icmp_ge hE 82 (by decide) dX1_receivedIn_62 ?_ ?_
  · exact sm_X1_receivedIn_J82 hE x3 x4
  · refine zs_aload_n hE 0 rfl rfl dX1_receivedIn_65 ?_
    refine zs_getI hE (ci := 34) (k := 24) rfl (by decide) in_X2 (Or.inr ⟨_, zn q283 rfl⟩) (Or.inl rfl) dX1_receivedIn_66 (fun v6 => ?_)
    refine zs_if_ne hE 82 (by decide) dX1_receivedIn_69 ?_ ?_
    · refine zs_aload_n hE 0 rfl rfl dX1_receivedIn_72 ?_
      refine zs_callV hE (As := []) (encA := encV) (ci := 34) rfl (fun y0 => met_X2_goesBy K y0) q2064 q96 q2061 q2062 (zq q2063) hd_X2_goesBy (by decide) (by decide) rfl (by simp [zcat_rf, zcat_i, zcat_j, zcat_f, zcat_d]) (fun z hz => by cases hz) dX1_receivedIn_73 (fun _ => ?_)
      show zS _ 76 _ [] _
      refine zs_iinc hE 1 (v := (1 : Int32)) rfl (by decide) (by decide) (zcat_rf x3) (lv' := [(3, va_rf x3)]) rfl dX1_receivedIn_76 ?_
      refine zs_goto hE 57 (by decide) dX1_receivedIn_79 ?_
      refine zs_sub [1, 0] rfl ?_
      exact hs57 (x4 + (1 : Int32))
    · exact sm_X1_receivedIn_J82 hE x3 x4
theorem sm_X1_receivedIn_L57 {x : ZX Int32} {K : ZK} (hE : zE x K cX1_receivedIn RX1 "receivedIn" 5 10 298 encI (Option.some Jvm.ClassFile.FieldType.int) []) (x3 : Option Nat) (v : Int32) : zS x 57 [(3, va_rf x3), (4, .int v)] [] (s_X1_receivedIn_L57 K x3 v) := by
  unfold s_X1_receivedIn_L57
  exact zs_loop (lvf := fun v => [(3, va_rf x3), (4, .int v)]) (fun self57 hs57 v => sm_X1_receivedIn_B57 hE x3 self57 hs57 v) v
theorem sm_X1_receivedIn_J38 {x : ZX Int32} {K : ZK} (hE : zE x K cX1_receivedIn RX1 "receivedIn" 5 10 298 encI (Option.some Jvm.ClassFile.FieldType.int) []) (x0 : Nat) (x1 : Int32) (t0 : Int32) : zS x 38 [(0, va_rf (some x0)), (1, .int x1)] [.int t0] (s_X1_receivedIn_J38 K x0 x1 t0) := by
  unfold s_X1_receivedIn_J38
  refine zs_callS hE (As := [.int t0]) (encA := encV) (met_X1_checkElement K t0) q2156 q95 q2154 q2155 hd_X1_checkElement (by decide) (by decide) rfl (by simp [zcat_rf, zcat_i, zcat_j, zcat_f, zcat_d]) (fun z hz => by cases hz) dX1_receivedIn_38 (fun _ => ?_)
  show zS _ 41 _ [] _
  refine zs_aload_n hE 0 rfl rfl dX1_receivedIn_41 ?_
  refine zs_getR hE (ci := 24) (k := 0) rfl (by decide) in_X1 (Or.inl q391) (Or.inl rfl) dX1_receivedIn_42 (fun v3 => ?_)
  refine zs_callV hE (As := []) (encA := encR) (ci := 34) rfl (fun y0 => met_X2_copy K y0) q1507 q96 q1504 q1505 (zq q1506) hd_X2_copy (by decide) (by decide) rfl (by simp [zcat_rf, zcat_i, zcat_j, zcat_f, zcat_d]) (fun z hz => by cases hz) dX1_receivedIn_45 (fun r4 => ?_)
  show zS _ 48 _ [va_rf r4] _
  refine zs_astore_n hE (i := 3) (q := 3) rfl (by decide) (trivial) (lv' := [(0, va_rf (some x0)), (1, .int x1)]) rfl dX1_receivedIn_48 ?_
  refine zs_aload_n hE 0 rfl rfl dX1_receivedIn_49 ?_
  refine zs_iload_n hE 2 rfl rfl dX1_receivedIn_50 ?_
  refine zs_putI hE (ci := 34) (k := 23) rfl (by decide) in_X2 (Or.inr ⟨_, zn q281 rfl⟩) (Or.inl rfl) (Or.inl rfl) (fun h => nomatch h) rfl dX1_receivedIn_51 ?_
  refine zs_iconst hE (v := (0 : Int32)) (by decide) dX1_receivedIn_54 ?_
  refine zs_istore hE (i := 4) (by decide) (zcat_rf r4) (lv' := [(3, va_rf r4), (0, va_rf (some x0)), (1, .int x1)]) rfl dX1_receivedIn_55 ?_
  refine zs_sub [1, 0] rfl ?_
  exact sm_X1_receivedIn_L57 hE r4 (0 : Int32)
theorem sm_X1_receivedIn_J37 {x : ZX Int32} {K : ZK} (hE : zE x K cX1_receivedIn RX1 "receivedIn" 5 10 298 encI (Option.some Jvm.ClassFile.FieldType.int) []) (x0 : Nat) (x1 : Int32) : zS x 37 [(0, va_rf (some x0)), (1, .int x1)] [] (s_X1_receivedIn_J37 K x0 x1) := by
  unfold s_X1_receivedIn_J37
  refine zs_iconst hE (v := (0 : Int32)) (by decide) dX1_receivedIn_37 ?_
  exact sm_X1_receivedIn_J38 hE x0 x1 (0 : Int32)
theorem sm_X1_receivedIn {x : ZX Int32} {K : ZK} (hE : zE x K cX1_receivedIn RX1 "receivedIn" 5 10 298 encI (Option.some Jvm.ClassFile.FieldType.int) []) (this : Nat) (a1 : Int32) : zS x 0 [(0, va_rf (some this)), (1, .int a1)] [] (s_X1_receivedIn K this a1) := by
  unfold s_X1_receivedIn
  refine zs_aload_n hE 0 rfl rfl dX1_receivedIn_0 ?_
  refine zs_getR hE (ci := 24) (k := 0) rfl (by decide) in_X1 (Or.inl q391) (Or.inl rfl) dX1_receivedIn_1 (fun v1 => ?_)
  refine zs_iload_n hE 1 rfl rfl dX1_receivedIn_4 ?_
  refine zs_callV hE (As := [.int a1]) (encA := encI) (ci := 34) rfl (fun y0 => met_X2_whereIs K y0 a1) q2196 q96 q2193 q2194 (zq q2195) hd_X2_whereIs (by decide) (by decide) rfl (by simp [zcat_rf, zcat_i, zcat_j, zcat_f, zcat_d]) (fun z hz => by cases hz) dX1_receivedIn_5 (fun r2 => ?_)
  show zS _ 8 _ [.int r2] _
  refine zs_istore_n hE (i := 2) (q := 2) rfl (by decide) (rfl) (lv' := [(0, va_rf (some this)), (1, .int a1)]) rfl dX1_receivedIn_8 ?_
  refine zs_iload_n hE 0 rfl rfl dX1_receivedIn_9 ?_
  refine zs_iconst hE (v := (-1 : Int32)) (by decide) dX1_receivedIn_10 ?_
  refine zs_icmp_eq hE 37 (by decide) dX1_receivedIn_11 ?_ ?_
  · refine zs_sub [1, 2] rfl ?_
    exact sm_X1_receivedIn_J37 hE this a1
  · refine zs_iload_n hE 0 rfl rfl dX1_receivedIn_14 ?_
    refine zs_bipush hE (v := (100 : Int32)) (by decide) dX1_receivedIn_15 ?_
    refine zs_icmp_ne hE 33 (by decide) dX1_receivedIn_17 ?_ ?_
    · refine zs_aload_n hE 1 rfl rfl dX1_receivedIn_20 ?_
      refine zs_getR hE (ci := 24) (k := 0) rfl (by decide) in_X1 (Or.inl q391) (Or.inl rfl) dX1_receivedIn_21 (fun v7 => ?_)
      refine zs_getR hE (ci := 34) (k := 5) rfl (by decide) in_X2 (Or.inr ⟨_, zn q232 rfl⟩) (Or.inl rfl) dX1_receivedIn_24 (fun v8 => ?_)
      refine zs_getI hE (ci := 38) (k := 3) rfl (by decide) in_X6 (Or.inr ⟨_, zn q1747 rfl⟩) (Or.inl rfl) dX1_receivedIn_27 (fun v9 => ?_)
      refine zs_if_ne hE 37 (by decide) dX1_receivedIn_30 ?_ ?_
      · refine zs_iconst hE (v := (1 : Int32)) (by decide) dX1_receivedIn_33 ?_
        refine zs_goto hE 38 (by decide) dX1_receivedIn_34 ?_
        refine zs_sub [1, 2] rfl ?_
        exact sm_X1_receivedIn_J38 hE this a1 (1 : Int32)
      · refine zs_sub [1, 2] rfl ?_
        exact sm_X1_receivedIn_J37 hE this a1
    · refine zs_iconst hE (v := (1 : Int32)) (by decide) dX1_receivedIn_33 ?_
      refine zs_goto hE 38 (by decide) dX1_receivedIn_34 ?_
      refine zs_sub [1, 2] rfl ?_
      exact sm_X1_receivedIn_J38 hE this a1 (1 : Int32)
theorem hd_X1_receivedIn : (yX1_receivedIn).cls ≠ "java/lang/invoke/MethodHandle" ∧ (yX1_receivedIn).cls ≠ "java/lang/invoke/VarHandle" ∧ (parseMethodDescriptor (yX1_receivedIn).desc).map (fun d => d.parameters.length) = some 1 := by decide +kernel
theorem met_X1_receivedIn (K : ZK) (this : Nat) (a1 : Int32) : zMeth K yX1_receivedIn (zws yX1_receivedIn cX1_receivedIn 5 (Option.some Jvm.ClassFile.FieldType.int)) 10 298 [.ref this, .int a1] encI (s_X1_receivedIn K this a1) :=
  fun l G hl hK => zmet_of hl hK (by decide +kernel) rfl rfl (by simp [zsl_nil, zsl_rf, zsl_r, zsl_i, zsl_j, zsl_f, zsl_d]) (fun x hE => by simp only [zla_nil, zla_rf, zla_r, zla_i, zla_j, zla_f, zla_d, Nat.reduceAdd]; exact sm_X1_receivedIn hE this a1)
theorem sm_X0_receivedIn {x : ZX Int32} {K : ZK} (hE : zE x K cX0_receivedIn RX0 "receivedIn" 4 11 322 encI (Option.some Jvm.ClassFile.FieldType.int) (tableOf [((0 : Nat), (9 : Nat), (12 : Nat), (46 : Nat))])) (a1 : Option Nat) (a2 : Int32) (a3 : Option Nat) : zS x 0 [(0, va_rf a1), (1, .int a2), (2, va_rf a3)] [] (s_X0_receivedIn K a1 a2 a3) := by
  unfold s_X0_receivedIn
  refine zs_aload_n hE 2 rfl rfl dX0_receivedIn_0 ?_
  refine zs_iconst hE (v := (0 : Int32)) (by decide) dX0_receivedIn_1 ?_
  refine zs_aload_n hE 0 rfl rfl dX0_receivedIn_2 ?_
  refine zs_iload_n hE 1 rfl rfl dX0_receivedIn_3 ?_
  refine zs_callVT hE (As := [.int a2]) (encA := encI) (ci := 24) rfl (fun y0 => met_X1_receivedIn K y0 a2) q2386 q95 q2383 q2384 (zq q2385) hd_X1_receivedIn (by decide) (by decide) rfl (by simp [zcat_rf, zcat_i, zcat_j, zcat_f, zcat_d]) (zhl_cons (zhnd (tableOf []) (tableOf []) ⟨0, 9, 12, 46⟩ rfl (fun w hw => by cases hw) (by decide) (by decide) q2149 (zn q940 rfl) (fun q1 => ?_)) zhl_nil) dX0_receivedIn_4 (fun r2 => ?_)
  · have hE := zE_q q1 3 hE
    have hq := zqin_q (x := x) q1 3
    refine zs_astore_n hE (i := 3) (q := 3) rfl (by decide) (zcat_rf a3) (lv' := [(0, va_rf a1), (1, .int a2), (2, va_rf a3)]) rfl dX0_receivedIn_12 ?_
    refine zs_iconst hE (v := (1 : Int32)) (by decide) dX0_receivedIn_13 ?_
    exact zs_iret hE dX0_receivedIn_14
  · show zS _ 7 _ [.int r2, .int (0 : Int32), va_rf a3] _
    refine zs_i2l hE dX0_receivedIn_7 ?_
    refine zs_astJ hE dX0_receivedIn_8 ?_
    refine zs_goto hE 15 (by decide) dX0_receivedIn_9 ?_
    refine zs_iconst hE (v := (0 : Int32)) (by decide) dX0_receivedIn_15 ?_
    exact zs_iret hE dX0_receivedIn_16
theorem hd_X0_receivedIn : (yX0_receivedIn).cls ≠ "java/lang/invoke/MethodHandle" ∧ (yX0_receivedIn).cls ≠ "java/lang/invoke/VarHandle" ∧ (parseMethodDescriptor (yX0_receivedIn).desc).map (fun d => d.parameters.length) = some 3 := by decide +kernel
theorem met_X0_receivedIn (K : ZK) (a1 : Option Nat) (a2 : Int32) (a3 : Option Nat) : zMeth K yX0_receivedIn (zwsW yX0_receivedIn cX0_receivedIn 4 (Option.some Jvm.ClassFile.FieldType.int) [((0 : Nat), (9 : Nat), (12 : Nat), (46 : Nat))]) 11 322 [va_rf a1, .int a2, va_rf a3] encI (s_X0_receivedIn K a1 a2 a3) :=
  fun l G hl hK => zmet_ofH hl hK (by decide +kernel) rfl rfl (by simp [zsl_nil, zsl_rf, zsl_r, zsl_i, zsl_j, zsl_f, zsl_d]) (fun x hE => by simp only [zla_nil, zla_rf, zla_r, zla_i, zla_j, zla_f, zla_d, Nat.reduceAdd]; exact sm_X0_receivedIn hE a1 a2 a3)
theorem sm_X1_tokenIn_J71 {x : ZX Int32} {K : ZK} (hE : zE x K cX1_tokenIn RX1 "tokenIn" 4 10 298 encI (Option.some Jvm.ClassFile.FieldType.int) []) (x3 : Int32) (t0 : Int32) : zS x 71 [(3, .int x3)] [.int t0] (s_X1_tokenIn_J71 K x3 t0) := by
  unfold s_X1_tokenIn_J71
  refine zs_callS hE (As := [.int t0]) (encA := encV) (met_X1_checkElement K t0) q2156 q95 q2154 q2155 hd_X1_checkElement (by decide) (by decide) rfl (by simp [zcat_rf, zcat_i, zcat_j, zcat_f, zcat_d]) (fun z hz => by cases hz) dX1_tokenIn_71 (fun _ => ?_)
  show zS _ 74 _ [] _
  refine zs_iload_n hE 0 rfl rfl dX1_tokenIn_74 ?_
  exact zs_iret hE dX1_tokenIn_75
theorem sm_X1_tokenIn_J70 {x : ZX Int32} {K : ZK} (hE : zE x K cX1_tokenIn RX1 "tokenIn" 4 10 298 encI (Option.some Jvm.ClassFile.FieldType.int) []) (x3 : Int32) : zS x 70 [(3, .int x3)] [] (s_X1_tokenIn_J70 K x3) := by
  unfold s_X1_tokenIn_J70
  refine zs_iconst hE (v := (0 : Int32)) (by decide) dX1_tokenIn_70 ?_
  exact sm_X1_tokenIn_J71 hE x3 (0 : Int32)
theorem sm_X1_tokenIn_J50 {x : ZX Int32} {K : ZK} (hE : zE x K cX1_tokenIn RX1 "tokenIn" 4 10 298 encI (Option.some Jvm.ClassFile.FieldType.int) []) (x1 : Int32) (x2 : Option Nat) (x3 : Int32) : zS x 50 [(1, .int x1), (2, va_rf x2), (3, .int x3)] [] (s_X1_tokenIn_J50 K x1 x2 x3) := by
  unfold s_X1_tokenIn_J50
  refine zs_aload_n hE 1 rfl rfl dX1_tokenIn_50 ?_
  refine zs_getI hE (ci := 34) (k := 1) rfl (by decide) in_X2 (Or.inr ⟨_, zn q221 rfl⟩) (Or.inl rfl) dX1_tokenIn_51 (fun v4 => ?_)
  refine zs_iconst hE (v := (1 : Int32)) (by decide) dX1_tokenIn_54 ?_
  refine zs_icmp_ne hE 70 (by decide) dX1_tokenIn_55 ?_ ?_
  · refine zs_aload_n hE 1 rfl rfl dX1_tokenIn_58 ?_
    refine zs_getI hE (ci := 34) (k := 2) rfl (by decide) in_X2 (Or.inr ⟨_, zn q224 rfl⟩) (Or.inl rfl) dX1_tokenIn_59 (fun v5 => ?_)
    refine zs_iload_n hE 0 rfl rfl dX1_tokenIn_62 ?_
    refine zs_icmp_ne hE 70 (by decide) dX1_tokenIn_63 ?_ ?_
    · refine zs_iconst hE (v := (1 : Int32)) (by decide) dX1_tokenIn_66 ?_
      refine zs_goto hE 71 (by decide) dX1_tokenIn_67 ?_
      refine zs_sub [2] rfl ?_
      exact sm_X1_tokenIn_J71 hE x3 (1 : Int32)
    · refine zs_sub [2] rfl ?_
      exact sm_X1_tokenIn_J70 hE x3
  · refine zs_sub [2] rfl ?_
    exact sm_X1_tokenIn_J70 hE x3
theorem sm_X1_tokenIn_J40 {x : ZX Int32} {K : ZK} (hE : zE x K cX1_tokenIn RX1 "tokenIn" 4 10 298 encI (Option.some Jvm.ClassFile.FieldType.int) []) (x1 : Int32) (x2 : Option Nat) (x3 : Int32) (self18 : Int32 → ZP Int32) (hs18 : ∀ v : Int32, zS x 18 [(1, .int x1), (2, va_rf x2), (3, .int v)] [] (self18 v)) : zS x 40 [(1, .int x1), (2, va_rf x2), (3, .int x3)] [] (s_X1_tokenIn_J40 K x1 x2 x3 self18) := by
  unfold s_X1_tokenIn_J40
  refine zs_aload_n hE 1 rfl rfl dX1_tokenIn_40 ?_
  refine zs_callV hE (As := []) (encA := encV) (ci := 34) rfl (fun y0 => met_X2_goesBy K y0) q2064 q96 q2061 q2062 (zq q2063) hd_X2_goesBy (by decide) (by decide) rfl (by simp [zcat_rf, zcat_i, zcat_j, zcat_f, zcat_d]) (fun z hz => by cases hz) dX1_tokenIn_41 (fun _ => ?_)
  show zS _ 44 _ [] _
  refine zs_iinc hE 2 (v := (1 : Int32)) rfl (by decide) (by decide) (zcat_rf x2) (lv' := [(1, .int x1), (2, va_rf x2)]) rfl dX1_tokenIn_44 ?_
  refine zs_goto hE 18 (by decide) dX1_tokenIn_47 ?_
  refine zs_sub [1, 2, 0] rfl ?_
  exact hs18 (x3 + (1 : Int32))
theorem sm_X1_tokenIn_B18 {x : ZX Int32} {K : ZK} (hE : zE x K cX1_tokenIn RX1 "tokenIn" 4 10 298 encI (Option.some Jvm.ClassFile.FieldType.int) []) (x1 : Int32) (x2 : Option Nat) (self18 : Int32 → ZP Int32) (hs18 : ∀ v : Int32, zS x 18 [(1, .int x1), (2, va_rf x2), (3, .int v)] [] (self18 v)) (x3 : Int32) : zS x 18 [(1, .int x1), (2, va_rf x2), (3, .int x3)] [] (s_X1_tokenIn_B18 K x1 x2 self18 x3) := by
  unfold s_X1_tokenIn_B18
  refine zs_iload_n hE 2 rfl rfl dX1_tokenIn_18 ?_
  refine zs_bipush hE (v := (100 : Int32)) (by decide) dX1_tokenIn_19 ?_
  refine zs_icmp_ge hE 50 (by decide) dX1_tokenIn_21 ?_ ?_
  · exact sm_X1_tokenIn_J50 hE x1 x2 x3
  · refine zs_aload_n hE 1 rfl rfl dX1_tokenIn_24 ?_
    refine zs_getI hE (ci := 34) (k := 1) rfl (by decide) in_X2 (Or.inr ⟨_, zn q221 rfl⟩) (Or.inl rfl) dX1_tokenIn_25 (fun v6 => ?_)
    refine zs_iconst hE (v := (1 : Int32)) (by decide) dX1_tokenIn_28 ?_
    refine zs_icmp_ne hE 40 (by decide) dX1_tokenIn_29 ?_ ?_
    · refine zs_aload_n hE 1 rfl rfl dX1_tokenIn_32 ?_
      refine zs_getI hE (ci := 34) (k := 2) rfl (by decide) in_X2 (Or.inr ⟨_, zn q224 rfl⟩) (Or.inl rfl) dX1_tokenIn_33 (fun v7 => ?_)
      refine zs_iload_n hE 0 rfl rfl dX1_tokenIn_36 ?_
      refine zs_icmp_eq hE 50 (by decide) dX1_tokenIn_37 ?_ ?_
      · exact sm_X1_tokenIn_J50 hE x1 x2 x3
      · exact sm_X1_tokenIn_J40 hE x1 x2 x3 self18 hs18
    · exact sm_X1_tokenIn_J40 hE x1 x2 x3 self18 hs18
theorem sm_X1_tokenIn_L18 {x : ZX Int32} {K : ZK} (hE : zE x K cX1_tokenIn RX1 "tokenIn" 4 10 298 encI (Option.some Jvm.ClassFile.FieldType.int) []) (x1 : Int32) (x2 : Option Nat) (v : Int32) : zS x 18 [(1, .int x1), (2, va_rf x2), (3, .int v)] [] (s_X1_tokenIn_L18 K x1 x2 v) := by
  unfold s_X1_tokenIn_L18
  exact zs_loop (lvf := fun v => [(1, .int x1), (2, va_rf x2), (3, .int v)]) (fun self18 hs18 v => sm_X1_tokenIn_B18 hE x1 x2 self18 hs18 v) v
theorem sm_X1_tokenIn {x : ZX Int32} {K : ZK} (hE : zE x K cX1_tokenIn RX1 "tokenIn" 4 10 298 encI (Option.some Jvm.ClassFile.FieldType.int) []) (this : Nat) (a1 : Int32) : zS x 0 [(0, va_rf (some this)), (1, .int a1)] [] (s_X1_tokenIn K this a1) := by
  unfold s_X1_tokenIn
  refine zs_aload_n hE 0 rfl rfl dX1_tokenIn_0 ?_
  refine zs_iload_n hE 1 rfl rfl dX1_tokenIn_1 ?_
  refine zs_callV hE (As := [.int a1]) (encA := encI) (ci := 24) rfl (fun y0 => met_X1_isStation K y0 a1) q1818 q95 q1815 q1817 (zq qs12) hd_X1_isStation (by decide) (by decide) rfl (by simp [zcat_rf, zcat_i, zcat_j, zcat_f, zcat_d]) (fun z hz => by cases hz) dX1_tokenIn_2 (fun r1 => ?_)
  show zS _ 5 _ [.int r1] _
  refine zs_callS hE (As := [.int r1]) (encA := encV) (met_X1_checkIndex K r1) q2175 q95 q2173 q2174 hd_X1_checkIndex (by decide) (by decide) rfl (by simp [zcat_rf, zcat_i, zcat_j, zcat_f, zcat_d]) (fun z hz => by cases hz) dX1_tokenIn_5 (fun _ => ?_)
  show zS _ 8 _ [] _
  refine zs_aload_n hE 0 rfl rfl dX1_tokenIn_8 ?_
  refine zs_getR hE (ci := 24) (k := 0) rfl (by decide) in_X1 (Or.inl q391) (Or.inl rfl) dX1_tokenIn_9 (fun v2 => ?_)
  refine zs_callV hE (As := []) (encA := encR) (ci := 34) rfl (fun y0 => met_X2_copy K y0) q1507 q96 q1504 q1505 (zq q1506) hd_X2_copy (by decide) (by decide) rfl (by simp [zcat_rf, zcat_i, zcat_j, zcat_f, zcat_d]) (fun z hz => by cases hz) dX1_tokenIn_12 (fun r3 => ?_)
  show zS _ 15 _ [va_rf r3] _
  refine zs_astore_n hE (i := 2) (q := 2) rfl (by decide) (rfl) (lv' := [(0, va_rf (some this)), (1, .int a1)]) rfl dX1_tokenIn_15 ?_
  refine zs_iconst hE (v := (0 : Int32)) (by decide) dX1_tokenIn_16 ?_
  refine zs_istore_n hE (i := 3) (q := 3) rfl (by decide) (zcat_rf r3) (lv' := [(2, va_rf r3), (0, va_rf (some this)), (1, .int a1)]) rfl dX1_tokenIn_17 ?_
  refine zs_sub [3, 1, 0] rfl ?_
  exact sm_X1_tokenIn_L18 hE a1 r3 (0 : Int32)
theorem hd_X1_tokenIn : (yX1_tokenIn).cls ≠ "java/lang/invoke/MethodHandle" ∧ (yX1_tokenIn).cls ≠ "java/lang/invoke/VarHandle" ∧ (parseMethodDescriptor (yX1_tokenIn).desc).map (fun d => d.parameters.length) = some 1 := by decide +kernel
theorem met_X1_tokenIn (K : ZK) (this : Nat) (a1 : Int32) : zMeth K yX1_tokenIn (zws yX1_tokenIn cX1_tokenIn 4 (Option.some Jvm.ClassFile.FieldType.int)) 10 298 [.ref this, .int a1] encI (s_X1_tokenIn K this a1) :=
  fun l G hl hK => zmet_of hl hK (by decide +kernel) rfl rfl (by simp [zsl_nil, zsl_rf, zsl_r, zsl_i, zsl_j, zsl_f, zsl_d]) (fun x hE => by simp only [zla_nil, zla_rf, zla_r, zla_i, zla_j, zla_f, zla_d, Nat.reduceAdd]; exact sm_X1_tokenIn hE this a1)
theorem sm_X0_tokenIn {x : ZX Int32} {K : ZK} (hE : zE x K cX0_tokenIn RX0 "tokenIn" 4 11 321 encI (Option.some Jvm.ClassFile.FieldType.int) (tableOf [((0 : Nat), (9 : Nat), (12 : Nat), (52 : Nat)), ((0 : Nat), (9 : Nat), (15 : Nat), (46 : Nat))])) (a1 : Option Nat) (a2 : Int32) (a3 : Option Nat) : zS x 0 [(0, va_rf a1), (1, .int a2), (2, va_rf a3)] [] (s_X0_tokenIn K a1 a2 a3) := by
  unfold s_X0_tokenIn
  refine zs_aload_n hE 2 rfl rfl dX0_tokenIn_0 ?_
  refine zs_iconst hE (v := (0 : Int32)) (by decide) dX0_tokenIn_1 ?_
  refine zs_aload_n hE 0 rfl rfl dX0_tokenIn_2 ?_
  refine zs_iload_n hE 1 rfl rfl dX0_tokenIn_3 ?_
  refine zs_callVT hE (As := [.int a2]) (encA := encI) (ci := 24) rfl (fun y0 => met_X1_tokenIn K y0 a2) q2393 q95 q2390 q2391 (zq q2392) hd_X1_tokenIn (by decide) (by decide) rfl (by simp [zcat_rf, zcat_i, zcat_j, zcat_f, zcat_d]) (zhl_cons (zhnd (tableOf []) (tableOf [(0, 9, 15, 46)]) ⟨0, 9, 12, 52⟩ rfl (fun w hw => by cases hw) (by decide) (by decide) q2162 (zn q1987 rfl) (fun q1 => ?_)) (zhl_cons (zhnd (tableOf [(0, 9, 12, 52)]) (tableOf []) ⟨0, 9, 15, 46⟩ rfl (fun w hw => by obtain rfl := List.mem_singleton.mp hw; exact Or.inr ⟨by decide, "java/lang/IndexOutOfBoundsException", q2162, List.mem_of_getElem? (i := 0) rfl⟩) (by decide) (by decide) q2149 (zn q940 rfl) (fun q2 => ?_)) zhl_nil)) dX0_tokenIn_4 (fun r3 => ?_)
  · have hE := zE_q q1 2 hE
    have hq := zqin_q (x := x) q1 2
    refine zs_astore_n hE (i := 3) (q := 3) rfl (by decide) (zcat_rf a3) (lv' := [(0, va_rf a1), (1, .int a2), (2, va_rf a3)]) rfl dX0_tokenIn_12 ?_
    refine zs_iconst hE (v := (1 : Int32)) (by decide) dX0_tokenIn_13 ?_
    exact zs_iret hE dX0_tokenIn_14
  · have hE := zE_q q2 3 hE
    have hq := zqin_q (x := x) q2 3
    refine zs_astore_n hE (i := 3) (q := 3) rfl (by decide) (zcat_rf a3) (lv' := [(0, va_rf a1), (1, .int a2), (2, va_rf a3)]) rfl dX0_tokenIn_15 ?_
    refine zs_iconst hE (v := (2 : Int32)) (by decide) dX0_tokenIn_16 ?_
    exact zs_iret hE dX0_tokenIn_17
  · show zS _ 7 _ [.int r3, .int (0 : Int32), va_rf a3] _
    refine zs_i2l hE dX0_tokenIn_7 ?_
    refine zs_astJ hE dX0_tokenIn_8 ?_
    refine zs_goto hE 18 (by decide) dX0_tokenIn_9 ?_
    refine zs_iconst hE (v := (0 : Int32)) (by decide) dX0_tokenIn_18 ?_
    exact zs_iret hE dX0_tokenIn_19
theorem hd_X0_tokenIn : (yX0_tokenIn).cls ≠ "java/lang/invoke/MethodHandle" ∧ (yX0_tokenIn).cls ≠ "java/lang/invoke/VarHandle" ∧ (parseMethodDescriptor (yX0_tokenIn).desc).map (fun d => d.parameters.length) = some 3 := by decide +kernel
theorem met_X0_tokenIn (K : ZK) (a1 : Option Nat) (a2 : Int32) (a3 : Option Nat) : zMeth K yX0_tokenIn (zwsW yX0_tokenIn cX0_tokenIn 4 (Option.some Jvm.ClassFile.FieldType.int) [((0 : Nat), (9 : Nat), (12 : Nat), (52 : Nat)), ((0 : Nat), (9 : Nat), (15 : Nat), (46 : Nat))]) 11 321 [va_rf a1, .int a2, va_rf a3] encI (s_X0_tokenIn K a1 a2 a3) :=
  fun l G hl hK => zmet_ofH hl hK (by decide +kernel) rfl rfl (by simp [zsl_nil, zsl_rf, zsl_r, zsl_i, zsl_j, zsl_f, zsl_d]) (fun x hE => by simp only [zla_nil, zla_rf, zla_r, zla_i, zla_j, zla_f, zla_d, Nat.reduceAdd]; exact sm_X0_tokenIn hE a1 a2 a3)
theorem sm_X1_ahead_B38 {x : ZX Int32} {K : ZK} (hE : zE x K cX1_ahead RX1 "ahead" 5 10 298 encI (Option.some Jvm.ClassFile.FieldType.int) []) (x1 : Int32) (x2 : Int32) (x3 : Option Nat) (self38 : Int32 → ZP Int32) (hs38 : ∀ v : Int32, zS x 38 [(1, .int x1), (2, .int x2), (3, va_rf x3), (4, .int v)] [] (self38 v)) (x4 : Int32) : zS x 38 [(1, .int x1), (2, .int x2), (3, va_rf x3), (4, .int x4)] [] (s_X1_ahead_B38 K x1 x2 x3 self38 x4) := by
  unfold s_X1_ahead_B38
  refine zs_iload hE 3 rfl dX1_ahead_38 ?_
  refine zs_iload_n hE 0 rfl rfl dX1_ahead_40 ?_
  refine zs_icmp_ge hE 54 (by decide) dX1_ahead_41 ?_ ?_
  · refine zs_iload_n hE 1 rfl rfl dX1_ahead_54 ?_
    refine zs_tsw hE (offl := [33, 38, 43, 49, 54]) rfl (by decide) dX1_ahead_55 (tgt := 114) (by decide) ⟨⟨by decide, 88, by decide, ?_⟩, ⟨by decide, 93, by decide, ?_⟩, ⟨by decide, 98, by decide, ?_⟩, ⟨by decide, 104, by decide, ?_⟩, ⟨by decide, 109, by decide, ?_⟩, trivial⟩ ?_
    · refine zs_aload_n hE 2 rfl rfl dX1_ahead_88 ?_
      refine zs_getI hE (ci := 34) (k := 11) rfl (by decide) in_X2 (Or.inr ⟨_, zn q249 rfl⟩) (Or.inl rfl) dX1_ahead_89 (fun v4 => ?_)
      exact zs_iret hE dX1_ahead_92
    · refine zs_aload_n hE 2 rfl rfl dX1_ahead_93 ?_
      refine zs_callV hE (As := []) (encA := encI) (ci := 34) rfl (fun y0 => met_X2_waiting K y0) q423 q96 q420 q421 (zq q422) hd_X2_waiting (by decide) (by decide) rfl (by simp [zcat_rf, zcat_i, zcat_j, zcat_f, zcat_d]) (fun z hz => by cases hz) dX1_ahead_94 (fun r5 => ?_)
      show zS _ 97 _ [.int r5] _
      exact zs_iret hE dX1_ahead_97
    · refine zs_aload_n hE 2 rfl rfl dX1_ahead_98 ?_
      refine zs_iconst hE (v := (0 : Int32)) (by decide) dX1_ahead_99 ?_
      refine zs_callS hE (As := [va_rf x3, .int (0 : Int32)]) (encA := encI) (met_X1_onRingOf K x3 (0 : Int32)) q1423 q95 q1421 q1422 hd_X1_onRingOf (by decide) (by decide) rfl (by simp [zcat_rf, zcat_i, zcat_j, zcat_f, zcat_d]) (fun z hz => by cases hz) dX1_ahead_100 (fun r6 => ?_)
      show zS _ 103 _ [.int r6] _
      exact zs_iret hE dX1_ahead_103
    · refine zs_aload_n hE 2 rfl rfl dX1_ahead_104 ?_
      refine zs_getI hE (ci := 34) (k := 6) rfl (by decide) in_X2 (Or.inr ⟨_, zn q235 rfl⟩) (Or.inl rfl) dX1_ahead_105 (fun v7 => ?_)
      exact zs_iret hE dX1_ahead_108
    · refine zs_aload_n hE 2 rfl rfl dX1_ahead_109 ?_
      refine zs_getI hE (ci := 34) (k := 7) rfl (by decide) in_X2 (Or.inr ⟨_, zn q238 rfl⟩) (Or.inl rfl) dX1_ahead_110 (fun v8 => ?_)
      exact zs_iret hE dX1_ahead_113
    · refine zs_aload_n hE 2 rfl rfl dX1_ahead_114 ?_
      refine zs_getI hE (ci := 34) (k := 13) rfl (by decide) in_X2 (Or.inr ⟨_, zn q255 rfl⟩) (Or.inl rfl) dX1_ahead_115 (fun v9 => ?_)
      exact zs_iret hE dX1_ahead_118
  · refine zs_aload_n hE 2 rfl rfl dX1_ahead_44 ?_
    refine zs_callV hE (As := []) (encA := encV) (ci := 34) rfl (fun y0 => met_X2_goesBy K y0) q2064 q96 q2061 q2062 (zq q2063) hd_X2_goesBy (by decide) (by decide) rfl (by simp [zcat_rf, zcat_i, zcat_j, zcat_f, zcat_d]) (fun z hz => by cases hz) dX1_ahead_45 (fun _ => ?_)
    show zS _ 48 _ [] _
    refine zs_iinc hE 3 (v := (1 : Int32)) rfl (by decide) (by decide) (zcat_rf x3) (lv' := [(1, .int x1), (2, .int x2), (3, va_rf x3)]) rfl dX1_ahead_48 ?_
    refine zs_goto hE 38 (by decide) dX1_ahead_51 ?_
    refine zs_sub [1, 2, 3, 0] rfl ?_
    exact hs38 (x4 + (1 : Int32))
theorem sm_X1_ahead_L38 {x : ZX Int32} {K : ZK} (hE : zE x K cX1_ahead RX1 "ahead" 5 10 298 encI (Option.some Jvm.ClassFile.FieldType.int) []) (x1 : Int32) (x2 : Int32) (x3 : Option Nat) (v : Int32) : zS x 38 [(1, .int x1), (2, .int x2), (3, va_rf x3), (4, .int v)] [] (s_X1_ahead_L38 K x1 x2 x3 v) := by
  unfold s_X1_ahead_L38
  exact zs_loop (lvf := fun v => [(1, .int x1), (2, .int x2), (3, va_rf x3), (4, .int v)]) (fun self38 hs38 v => sm_X1_ahead_B38 hE x1 x2 x3 self38 hs38 v) v
theorem sm_X1_ahead_J24 {x : ZX Int32} {K : ZK} (hE : zE x K cX1_ahead RX1 "ahead" 5 10 298 encI (Option.some Jvm.ClassFile.FieldType.int) []) (x0 : Nat) (x1 : Int32) (x2 : Int32) (t0 : Int32) : zS x 24 [(0, va_rf (some x0)), (1, .int x1), (2, .int x2)] [.int t0] (s_X1_ahead_J24 K x0 x1 x2 t0) := by
  unfold s_X1_ahead_J24
  refine zs_callS hE (As := [.int t0]) (encA := encV) (met_X1_check K t0) q2140 q95 q2138 q2139 hd_X1_check (by decide) (by decide) rfl (by simp [zcat_rf, zcat_i, zcat_j, zcat_f, zcat_d]) (fun z hz => by cases hz) dX1_ahead_24 (fun _ => ?_)
  show zS _ 27 _ [] _
  refine zs_aload_n hE 0 rfl rfl dX1_ahead_27 ?_
  refine zs_getR hE (ci := 24) (k := 0) rfl (by decide) in_X1 (Or.inl q391) (Or.inl rfl) dX1_ahead_28 (fun v2 => ?_)
  refine zs_callV hE (As := []) (encA := encR) (ci := 34) rfl (fun y0 => met_X2_copy K y0) q1507 q96 q1504 q1505 (zq q1506) hd_X2_copy (by decide) (by decide) rfl (by simp [zcat_rf, zcat_i, zcat_j, zcat_f, zcat_d]) (fun z hz => by cases hz) dX1_ahead_31 (fun r3 => ?_)
  show zS _ 34 _ [va_rf r3] _
  refine zs_astore_n hE (i := 3) (q := 3) rfl (by decide) (rfl) (lv' := [(0, va_rf (some x0)), (1, .int x1), (2, .int x2)]) rfl dX1_ahead_34 ?_
  refine zs_iconst hE (v := (0 : Int32)) (by decide) dX1_ahead_35 ?_
  refine zs_istore hE (i := 4) (by decide) (zcat_rf r3) (lv' := [(3, va_rf r3), (0, va_rf (some x0)), (1, .int x1), (2, .int x2)]) rfl dX1_ahead_36 ?_
  refine zs_sub [3, 4, 1, 0] rfl ?_
  exact sm_X1_ahead_L38 hE x1 x2 r3 (0 : Int32)
theorem sm_X1_ahead_J23 {x : ZX Int32} {K : ZK} (hE : zE x K cX1_ahead RX1 "ahead" 5 10 298 encI (Option.some Jvm.ClassFile.FieldType.int) []) (x0 : Nat) (x1 : Int32) (x2 : Int32) : zS x 23 [(0, va_rf (some x0)), (1, .int x1), (2, .int x2)] [] (s_X1_ahead_J23 K x0 x1 x2) := by
  unfold s_X1_ahead_J23
  refine zs_iconst hE (v := (0 : Int32)) (by decide) dX1_ahead_23 ?_
  exact sm_X1_ahead_J24 hE x0 x1 x2 (0 : Int32)
theorem sm_X1_ahead {x : ZX Int32} {K : ZK} (hE : zE x K cX1_ahead RX1 "ahead" 5 10 298 encI (Option.some Jvm.ClassFile.FieldType.int) []) (this : Nat) (a1 : Int32) (a2 : Int32) : zS x 0 [(0, va_rf (some this)), (1, .int a1), (2, .int a2)] [] (s_X1_ahead K this a1 a2) := by
  unfold s_X1_ahead
  refine zs_iload_n hE 1 rfl rfl dX1_ahead_0 ?_
  refine zs_iconst hE (v := (0 : Int32)) (by decide) dX1_ahead_1 ?_
  refine zs_bipush hE (v := (60 : Int32)) (by decide) dX1_ahead_2 ?_
  refine zs_callS hE (As := [.int a1, .int (0 : Int32), .int (60 : Int32)]) (encA := encI) (met_X1_isBetween K a1 (0 : Int32) (60 : Int32)) q1776 q95 q1774 q1775 hd_X1_isBetween (by decide) (by decide) rfl (by simp [zcat_rf, zcat_i, zcat_j, zcat_f, zcat_d]) (fun z hz => by cases hz) dX1_ahead_4 (fun r1 => ?_)
  show zS _ 7 _ [.int r1] _
  refine zs_if_eq hE 23 (by decide) dX1_ahead_7 ?_ ?_
  · exact sm_X1_ahead_J23 hE this a1 a2
  · refine zs_iload_n hE 2 rfl rfl dX1_ahead_10 ?_
    refine zs_iconst hE (v := (0 : Int32)) (by decide) dX1_ahead_11 ?_
    refine zs_iconst hE (v := (5 : Int32)) (by decide) dX1_ahead_12 ?_
    refine zs_callS hE (As := [.int a2, .int (0 : Int32), .int (5 : Int32)]) (encA := encI) (met_X1_isBetween K a2 (0 : Int32) (5 : Int32)) q1776 q95 q1774 q1775 hd_X1_isBetween (by decide) (by decide) rfl (by simp [zcat_rf, zcat_i, zcat_j, zcat_f, zcat_d]) (fun z hz => by cases hz) dX1_ahead_13 (fun r10 => ?_)
    show zS _ 16 _ [.int r10] _
    refine zs_if_eq hE 23 (by decide) dX1_ahead_16 ?_ ?_
    · exact sm_X1_ahead_J23 hE this a1 a2
    · refine zs_iconst hE (v := (1 : Int32)) (by decide) dX1_ahead_19 ?_
      refine zs_goto hE 24 (by decide) dX1_ahead_20 ?_
      exact sm_X1_ahead_J24 hE this a1 a2 (1 : Int32)
theorem hd_X1_ahead : (yX1_ahead).cls ≠ "java/lang/invoke/MethodHandle" ∧ (yX1_ahead).cls ≠ "java/lang/invoke/VarHandle" ∧ (parseMethodDescriptor (yX1_ahead).desc).map (fun d => d.parameters.length) = some 2 := by decide +kernel
theorem met_X1_ahead (K : ZK) (this : Nat) (a1 : Int32) (a2 : Int32) : zMeth K yX1_ahead (zws yX1_ahead cX1_ahead 5 (Option.some Jvm.ClassFile.FieldType.int)) 10 298 [.ref this, .int a1, .int a2] encI (s_X1_ahead K this a1 a2) :=
  fun l G hl hK => zmet_of hl hK (by decide +kernel) rfl rfl (by simp [zsl_nil, zsl_rf, zsl_r, zsl_i, zsl_j, zsl_f, zsl_d]) (fun x hE => by simp only [zla_nil, zla_rf, zla_r, zla_i, zla_j, zla_f, zla_d, Nat.reduceAdd]; exact sm_X1_ahead hE this a1 a2)
theorem sm_X0_ahead {x : ZX Int32} {K : ZK} (hE : zE x K cX0_ahead RX0 "ahead" 5 11 322 encI (Option.some Jvm.ClassFile.FieldType.int) (tableOf [((0 : Nat), (10 : Nat), (13 : Nat), (41 : Nat))])) (a1 : Option Nat) (a2 : Int32) (a3 : Int32) (a4 : Option Nat) : zS x 0 [(0, va_rf a1), (1, .int a2), (2, .int a3), (3, va_rf a4)] [] (s_X0_ahead K a1 a2 a3 a4) := by
  unfold s_X0_ahead
  refine zs_aload_n hE 3 rfl rfl dX0_ahead_0 ?_
  refine zs_iconst hE (v := (0 : Int32)) (by decide) dX0_ahead_1 ?_
  refine zs_aload_n hE 0 rfl rfl dX0_ahead_2 ?_
  refine zs_iload_n hE 1 rfl rfl dX0_ahead_3 ?_
  refine zs_iload_n hE 2 rfl rfl dX0_ahead_4 ?_
  refine zs_callVT hE (As := [.int a2, .int a3]) (encA := encI) (ci := 24) rfl (fun y0 => met_X1_ahead K y0 a2 a3) q2400 q95 q2397 q2398 (zq q2399) hd_X1_ahead (by decide) (by decide) rfl (by simp [zcat_rf, zcat_i, zcat_j, zcat_f, zcat_d]) (zhl_cons (zhnd (tableOf []) (tableOf []) ⟨0, 10, 13, 41⟩ rfl (fun w hw => by cases hw) (by decide) (by decide) q2133 (zn q1287 rfl) (fun q1 => ?_)) zhl_nil) dX0_ahead_5 (fun r2 => ?_)
  · have hE := zE_q q1 1 hE
    have hq := zqin_q (x := x) q1 1
    refine zs_astore hE (i := 4) (by decide) (zcat_rf a4) (lv' := [(0, va_rf a1), (1, .int a2), (2, .int a3), (3, va_rf a4)]) rfl dX0_ahead_13 ?_
    refine zs_iconst hE (v := (1 : Int32)) (by decide) dX0_ahead_15 ?_
    exact zs_iret hE dX0_ahead_16
  · show zS _ 8 _ [.int r2, .int (0 : Int32), va_rf a4] _
    refine zs_i2l hE dX0_ahead_8 ?_
    refine zs_astJ hE dX0_ahead_9 ?_
    refine zs_goto hE 17 (by decide) dX0_ahead_10 ?_
    refine zs_iconst hE (v := (0 : Int32)) (by decide) dX0_ahead_17 ?_
    exact zs_iret hE dX0_ahead_18
theorem hd_X0_ahead : (yX0_ahead).cls ≠ "java/lang/invoke/MethodHandle" ∧ (yX0_ahead).cls ≠ "java/lang/invoke/VarHandle" ∧ (parseMethodDescriptor (yX0_ahead).desc).map (fun d => d.parameters.length) = some 4 := by decide +kernel
theorem met_X0_ahead (K : ZK) (a1 : Option Nat) (a2 : Int32) (a3 : Int32) (a4 : Option Nat) : zMeth K yX0_ahead (zwsW yX0_ahead cX0_ahead 5 (Option.some Jvm.ClassFile.FieldType.int) [((0 : Nat), (10 : Nat), (13 : Nat), (41 : Nat))]) 11 322 [va_rf a1, .int a2, .int a3, va_rf a4] encI (s_X0_ahead K a1 a2 a3 a4) :=
  fun l G hl hK => zmet_ofH hl hK (by decide +kernel) rfl rfl (by simp [zsl_nil, zsl_rf, zsl_r, zsl_i, zsl_j, zsl_f, zsl_d]) (fun x hE => by simp only [zla_nil, zla_rf, zla_r, zla_i, zla_j, zla_f, zla_d, Nat.reduceAdd]; exact sm_X0_ahead hE a1 a2 a3 a4)
theorem sm_X11_init {x : ZX Unit} {K : ZK} (hE : zE x K cX11_init RX11 "<init>" 2 1 100 encV none []) (this : Nat) (a1 : Option Nat) : zS x 0 [(0, va_rf (some this)), (1, va_rf a1)] [] (s_X11_init K this a1) := by
  unfold s_X11_init
  refine zs_aload_n hE 0 rfl rfl dX11_init_0 ?_
  refine zs_aload_n hE 1 rfl rfl dX11_init_1 ?_
  refine zs_putR hE (ci := 26) (k := 0) rfl (by decide) in_X11 (Or.inl q2414) (Or.inl rfl) (Or.inr ⟨rfl, rfl, rfl⟩) (fun _ => q2414) (tyX11_ok 0 (by decide)) (Or.inl ⟨_, rfl⟩) dX11_init_2 ?_
  refine zs_aload_n hE 0 rfl rfl dX11_init_5 ?_
  refine zs_objInit hE q2413 q169 q170 (by decide) (by first | decide | simp [zcat_rf, zcat_i, zcat_j, zcat_f, zcat_d]) dX11_init_6 ?_
  exact zs_vret hE dX11_init_9
theorem hd_X11_init : (yX11_init).cls ≠ "java/lang/invoke/MethodHandle" ∧ (yX11_init).cls ≠ "java/lang/invoke/VarHandle" ∧ (parseMethodDescriptor (yX11_init).desc).map (fun d => d.parameters.length) = some 1 := by decide +kernel
theorem met_X11_init (K : ZK) (this : Nat) (a1 : Option Nat) : zMeth K yX11_init (zws yX11_init cX11_init 2 none) 1 100 [.ref this, va_rf a1] encV (s_X11_init K this a1) :=
  fun l G hl hK => zmet_of hl hK (by decide +kernel) rfl rfl (by simp [zsl_nil, zsl_rf, zsl_r, zsl_i, zsl_j, zsl_f, zsl_d]) (fun x hE => by simp only [zla_nil, zla_rf, zla_r, zla_i, zla_j, zla_f, zla_d, Nat.reduceAdd]; exact sm_X11_init hE this a1)
theorem sm_X11_is {x : ZX Int32} {K : ZK} (hE : zE x K cX11_is RX11 "is" 3 4 165 encI (Option.some Jvm.ClassFile.FieldType.boolean) []) (this : Nat) (a1 : Option Nat) (a2 : Option Nat) : zS x 0 [(0, va_rf (some this)), (1, va_rf a1), (2, va_rf a2)] [] (s_X11_is K this a1 a2) := by
  unfold s_X11_is
  refine zs_aload_n hE 1 rfl rfl dX11_is_0 ?_
  refine zs_getR hE (ci := 37) (k := 1) rfl (by decide) in_X5 (Or.inr ⟨_, zn q1552 rfl⟩) (Or.inl rfl) dX11_is_1 (fun v1 => ?_)
  refine zs_callV hE (As := []) (encA := encI) (ci := 11) rfl (fun y0 => met_J31_size K y0) q1102 q133 q2422 q1100 (zq q1101) hd_J31_size (by decide) (by decide) rfl (by simp [zcat_rf, zcat_i, zcat_j, zcat_f, zcat_d]) (fun z hz => by cases hz) dX11_is_4 (fun r2 => ?_)
  show zS _ 7 _ [.int r2] _
  refine zs_aload_n hE 2 rfl rfl dX11_is_7 ?_
  refine zs_getR hE (ci := 37) (k := 1) rfl (by decide) in_X5 (Or.inr ⟨_, zn q1552 rfl⟩) (Or.inl rfl) dX11_is_8 (fun v3 => ?_)
  refine zs_callV hE (As := []) (encA := encI) (ci := 11) rfl (fun y0 => met_J31_size K y0) q1102 q133 q2422 q1100 (zq q1101) hd_J31_size (by decide) (by decide) rfl (by simp [zcat_rf, zcat_i, zcat_j, zcat_f, zcat_d]) (fun z hz => by cases hz) dX11_is_11 (fun r4 => ?_)
  show zS _ 14 _ [.int r4, .int r2] _
  refine zs_icmp_eq hE 40 (by decide) dX11_is_14 ?_ ?_
  · refine zs_aload_n hE 1 rfl rfl dX11_is_40 ?_
    refine zs_callV hE (As := []) (encA := encI) (ci := 37) rfl (fun y0 => met_X5_lengths K y0) q2218 q131 q2423 q2216 (zq q2217) hd_X5_lengths (by decide) (by decide) rfl (by simp [zcat_rf, zcat_i, zcat_j, zcat_f, zcat_d]) (fun z hz => by cases hz) dX11_is_41 (fun r5 => ?_)
    show zS _ 44 _ [.int r5] _
    refine zs_aload_n hE 2 rfl rfl dX11_is_44 ?_
    refine zs_callV hE (As := []) (encA := encI) (ci := 37) rfl (fun y0 => met_X5_lengths K y0) q2218 q131 q2423 q2216 (zq q2217) hd_X5_lengths (by decide) (by decide) rfl (by simp [zcat_rf, zcat_i, zcat_j, zcat_f, zcat_d]) (fun z hz => by cases hz) dX11_is_45 (fun r6 => ?_)
    show zS _ 48 _ [.int r6, .int r5] _
    refine zs_icmp_eq hE 70 (by decide) dX11_is_48 ?_ ?_
    · refine zs_aload_n hE 1 rfl rfl dX11_is_70 ?_
      refine zs_getI hE (ci := 37) (k := 0) rfl (by decide) in_X5 (Or.inr ⟨_, zn q1548 rfl⟩) (Or.inl rfl) dX11_is_71 (fun v7 => ?_)
      refine zs_aload_n hE 2 rfl rfl dX11_is_74 ?_
      refine zs_getI hE (ci := 37) (k := 0) rfl (by decide) in_X5 (Or.inr ⟨_, zn q1548 rfl⟩) (Or.inl rfl) dX11_is_75 (fun v8 => ?_)
      refine zs_icmp_ge hE 85 (by decide) dX11_is_78 ?_ ?_
      · refine zs_iconst hE (v := (0 : Int32)) (by decide) dX11_is_85 ?_
        exact zs_zret hE rfl dX11_is_86
      · refine zs_iconst hE (v := (1 : Int32)) (by decide) dX11_is_81 ?_
        refine zs_goto hE 86 (by decide) dX11_is_82 ?_
        exact zs_zret hE rfl dX11_is_86
    · refine zs_aload_n hE 1 rfl rfl dX11_is_51 ?_
      refine zs_callV hE (As := []) (encA := encI) (ci := 37) rfl (fun y0 => met_X5_lengths K y0) q2218 q131 q2423 q2216 (zq q2217) hd_X5_lengths (by decide) (by decide) rfl (by simp [zcat_rf, zcat_i, zcat_j, zcat_f, zcat_d]) (fun z hz => by cases hz) dX11_is_52 (fun r9 => ?_)
      show zS _ 55 _ [.int r9] _
      refine zs_aload_n hE 2 rfl rfl dX11_is_55 ?_
      refine zs_callV hE (As := []) (encA := encI) (ci := 37) rfl (fun y0 => met_X5_lengths K y0) q2218 q131 q2423 q2216 (zq q2217) hd_X5_lengths (by decide) (by decide) rfl (by simp [zcat_rf, zcat_i, zcat_j, zcat_f, zcat_d]) (fun z hz => by cases hz) dX11_is_56 (fun r10 => ?_)
      show zS _ 59 _ [.int r10, .int r9] _
      refine zs_icmp_le hE 66 (by decide) dX11_is_59 ?_ ?_
      · refine zs_iconst hE (v := (0 : Int32)) (by decide) dX11_is_66 ?_
        refine zs_goto hE 86 (by decide) dX11_is_67 ?_
        exact zs_zret hE rfl dX11_is_86
      · refine zs_iconst hE (v := (1 : Int32)) (by decide) dX11_is_62 ?_
        refine zs_goto hE 86 (by decide) dX11_is_63 ?_
        exact zs_zret hE rfl dX11_is_86
  · refine zs_aload_n hE 1 rfl rfl dX11_is_17 ?_
    refine zs_getR hE (ci := 37) (k := 1) rfl (by decide) in_X5 (Or.inr ⟨_, zn q1552 rfl⟩) (Or.inl rfl) dX11_is_18 (fun v11 => ?_)
    refine zs_callV hE (As := []) (encA := encI) (ci := 11) rfl (fun y0 => met_J31_size K y0) q1102 q133 q2422 q1100 (zq q1101) hd_J31_size (by decide) (by decide) rfl (by simp [zcat_rf, zcat_i, zcat_j, zcat_f, zcat_d]) (fun z hz => by cases hz) dX11_is_21 (fun r12 => ?_)
    show zS _ 24 _ [.int r12] _
    refine zs_aload_n hE 2 rfl rfl dX11_is_24 ?_
    refine zs_getR hE (ci := 37) (k := 1) rfl (by decide) in_X5 (Or.inr ⟨_, zn q1552 rfl⟩) (Or.inl rfl) dX11_is_25 (fun v13 => ?_)
    refine zs_callV hE (As := []) (encA := encI) (ci := 11) rfl (fun y0 => met_J31_size K y0) q1102 q133 q2422 q1100 (zq q1101) hd_J31_size (by decide) (by decide) rfl (by simp [zcat_rf, zcat_i, zcat_j, zcat_f, zcat_d]) (fun z hz => by cases hz) dX11_is_28 (fun r14 => ?_)
    show zS _ 31 _ [.int r14, .int r12] _
    refine zs_icmp_le hE 38 (by decide) dX11_is_31 ?_ ?_
    · refine zs_iconst hE (v := (0 : Int32)) (by decide) dX11_is_38 ?_
      exact zs_zret hE rfl dX11_is_39
    · refine zs_iconst hE (v := (1 : Int32)) (by decide) dX11_is_34 ?_
      refine zs_goto hE 39 (by decide) dX11_is_35 ?_
      exact zs_zret hE rfl dX11_is_39
theorem hd_X11_is : (yX11_is).cls ≠ "java/lang/invoke/MethodHandle" ∧ (yX11_is).cls ≠ "java/lang/invoke/VarHandle" ∧ (parseMethodDescriptor (yX11_is).desc).map (fun d => d.parameters.length) = some 2 := by decide +kernel
theorem met_X11_is (K : ZK) (this : Nat) (a1 : Option Nat) (a2 : Option Nat) : zMeth K yX11_is (zws yX11_is cX11_is 3 (Option.some Jvm.ClassFile.FieldType.boolean)) 4 165 [.ref this, va_rf a1, va_rf a2] encI (s_X11_is K this a1 a2) :=
  fun l G hl hK => zmet_of hl hK (by decide +kernel) rfl rfl (by simp [zsl_nil, zsl_rf, zsl_r, zsl_i, zsl_j, zsl_f, zsl_d]) (fun x hE => by simp only [zla_nil, zla_rf, zla_r, zla_i, zla_j, zla_f, zla_d, Nat.reduceAdd]; exact sm_X11_is hE this a1 a2)
theorem sm_X1_ranked_B85 {x : ZX Int32} {K : ZK} (hE : zE x K cX1_ranked RX1 "ranked" 8 7 187 encI (Option.some Jvm.ClassFile.FieldType.int) []) (x0 : Nat) (x1 : Int32) (x2 : Nat) (x3 : Option Nat) (x4 : Option Nat) (x6 : Option Nat) (self45 : Unit → ZP Int32) (self85 : Int32 → ZP Int32) (hs45 : ∀ v : Unit, zS x 45 [(0, va_rf (some x0)), (1, .int x1), (2, va_rf (some x2)), (3, va_rf x3)] [] (self45 v)) (hs85 : ∀ v : Int32, zS x 85 [(0, va_rf (some x0)), (1, .int x1), (2, va_rf (some x2)), (3, va_rf x3), (4, va_rf x4), (5, .int v), (6, va_rf x6)] [] (self85 v)) (x5 : Int32) : zS x 85 [(0, va_rf (some x0)), (1, .int x1), (2, va_rf (some x2)), (3, va_rf x3), (4, va_rf x4), (5, .int x5), (6, va_rf x6)] [] (s_X1_ranked_B85 K x0 x1 x2 x3 x4 x6 self45 self85 x5) := by
  unfold s_X1_ranked_B85
  refine zs_aload hE 6 rfl dX1_ranked_85 ?_
  refine zs_callF hE (xx := ⟨"java/util/Iterator", "hasNext", "()Z"⟩) (As := []) (encA := encI) (ci := 8) rfl (fun y0 => met_J26_hasNext__J28 K y0) q875 q127 q1389 (List.mem_of_getElem? (i := 1) rfl) q873 q883 hdx_h2 (by decide) (by decide) rfl (by simp [zcat_rf, zcat_i, zcat_j, zcat_f, zcat_d]) (fun z hz => by cases hz) dX1_ranked_87 (fun r16 => ?_)
  show zS _ 92 _ [.int r16] _
  refine zs_if_eq hE 126 (by decide) dX1_ranked_92 ?_ ?_
  · refine zs_iload hE 5 rfl dX1_ranked_126 ?_
    refine zs_iload_n hE 1 rfl rfl dX1_ranked_128 ?_
    refine zs_icmp_ne hE 138 (by decide) dX1_ranked_129 ?_ ?_
    · refine zs_aload hE 4 rfl dX1_ranked_132 ?_
      refine zs_getI hE (ci := 37) (k := 0) rfl (by decide) in_X5 (Or.inr ⟨_, zn q1550 rfl⟩) (Or.inl rfl) dX1_ranked_134 (fun v17 => ?_)
      exact zs_iret hE dX1_ranked_137
    · refine zs_goto hE 45 (by decide) dX1_ranked_138 ?_
      refine zs_sub [0, 1, 2, 3] rfl ?_
      exact hs45 ()
  · refine zs_aload hE 6 rfl dX1_ranked_95 ?_
    refine zs_callF hE (xx := ⟨"java/util/Iterator", "next", "()Ljava/lang/Object;"⟩) (As := []) (encA := encR) (ci := 8) rfl (fun y0 => met_J28_next K y0) q1094 q129 q1391 (List.mem_of_getElem? (i := 2) rfl) q1092 q1090 hdx_h4 (by decide) (by decide) rfl (by simp [zcat_rf, zcat_i, zcat_j, zcat_f, zcat_d]) (fun z hz => by cases hz) dX1_ranked_97 (fun r18 => ?_)
    show zS _ 102 _ [va_rf r18] _
    refine zs_cast hE q1392 (zc1 rfl (Or.inl rfl)) dX1_ranked_102 ?_
    refine zs_astore hE (i := 7) (by decide) (zcat_rf x6) (lv' := [(0, va_rf (some x0)), (1, .int x1), (2, va_rf (some x2)), (3, va_rf x3), (4, va_rf x4), (5, .int x5), (6, va_rf x6)]) rfl dX1_ranked_105 ?_
    refine zs_iload hE 6 rfl dX1_ranked_107 ?_
    refine zs_aload_n hE 3 rfl rfl dX1_ranked_109 ?_
    refine zs_aload hE 0 rfl dX1_ranked_110 ?_
    refine zs_aload hE 5 rfl dX1_ranked_112 ?_
    refine zs_callV hE (As := [va_rf r18, va_rf x4]) (encA := encI) (ci := 26) rfl (fun y0 => met_X11_is K y0 r18 x4) q2421 q152 q2418 q2419 (zq q2420) hd_X11_is (by decide) (by decide) rfl (by simp [zcat_rf, zcat_i, zcat_j, zcat_f, zcat_d]) (fun z hz => by cases hz) dX1_ranked_114 (fun r19 => ?_)
    show zS _ 117 _ [.int r19, .int x5] _
    refine zs_callS hE (As := [.int r19]) (encA := encI) (met_X1_of K r19) q1426 q95 q1424 q1425 hd_X1_of (by decide) (by decide) rfl (by simp [zcat_rf, zcat_i, zcat_j, zcat_f, zcat_d]) (fun z hz => by cases hz) dX1_ranked_117 (fun r20 => ?_)
    show zS _ 120 _ [.int r20, .int x5] _
    refine zs_iadd hE dX1_ranked_120 ?_
    refine zs_istore hE (i := 5) (by decide) (zcat_rf x4) (lv' := [(7, va_rf r18), (0, va_rf (some x0)), (1, .int x1), (2, va_rf (some x2)), (3, va_rf x3), (4, va_rf x4), (6, va_rf x6)]) rfl dX1_ranked_121 ?_
    refine zs_goto hE 85 (by decide) dX1_ranked_123 ?_
    refine zs_sub [2, 3, 4, 5, 6, 0, 7] rfl ?_
    exact hs85 (x5 + r20)
theorem sm_X1_ranked_L85 {x : ZX Int32} {K : ZK} (hE : zE x K cX1_ranked RX1 "ranked" 8 7 187 encI (Option.some Jvm.ClassFile.FieldType.int) []) (x0 : Nat) (x1 : Int32) (x2 : Nat) (x3 : Option Nat) (x4 : Option Nat) (x6 : Option Nat) (self45 : Unit → ZP Int32) (hs45 : ∀ v : Unit, zS x 45 [(0, va_rf (some x0)), (1, .int x1), (2, va_rf (some x2)), (3, va_rf x3)] [] (self45 v)) (v : Int32) : zS x 85 [(0, va_rf (some x0)), (1, .int x1), (2, va_rf (some x2)), (3, va_rf x3), (4, va_rf x4), (5, .int v), (6, va_rf x6)] [] (s_X1_ranked_L85 K x0 x1 x2 x3 x4 x6 self45 v) := by
  unfold s_X1_ranked_L85
  exact zs_loop (lvf := fun v => [(0, va_rf (some x0)), (1, .int x1), (2, va_rf (some x2)), (3, va_rf x3), (4, va_rf x4), (5, .int v), (6, va_rf x6)]) (fun self85 hs85 v => sm_X1_ranked_B85 hE x0 x1 x2 x3 x4 x6 self45 self85 hs45 hs85 v) v
theorem sm_X1_ranked_B45 {x : ZX Int32} {K : ZK} (hE : zE x K cX1_ranked RX1 "ranked" 8 7 187 encI (Option.some Jvm.ClassFile.FieldType.int) []) (x0 : Nat) (x1 : Int32) (x2 : Nat) (x3 : Option Nat) (self45 : Unit → ZP Int32) (hs45 : ∀ v : Unit, zS x 45 [(0, va_rf (some x0)), (1, .int x1), (2, va_rf (some x2)), (3, va_rf x3)] [] (self45 v)) : zS x 45 [(0, va_rf (some x0)), (1, .int x1), (2, va_rf (some x2)), (3, va_rf x3)] [] (s_X1_ranked_B45 K x0 x1 x2 x3 self45) := by
  unfold s_X1_ranked_B45
  refine zs_aload_n hE 3 rfl rfl dX1_ranked_45 ?_
  refine zs_callF hE (xx := ⟨"java/util/Iterator", "hasNext", "()Z"⟩) (As := []) (encA := encI) (ci := 8) rfl (fun y0 => met_J26_hasNext__J28 K y0) q875 q127 q1389 (List.mem_of_getElem? (i := 1) rfl) q873 q883 hdx_h2 (by decide) (by decide) rfl (by simp [zcat_rf, zcat_i, zcat_j, zcat_f, zcat_d]) (fun z hz => by cases hz) dX1_ranked_46 (fun r10 => ?_)
  show zS _ 51 _ [.int r10] _
  refine zs_if_eq hE 141 (by decide) dX1_ranked_51 ?_ ?_
  · exact zs_throw hE (ik := 63) (ic := 65) (ci := 3) (by decide) (by decide +kernel) q2157 q130 zth_3 zthg_3 (by decide) (by decide) (fun z hz => by cases hz) dX1_ranked_141 dX1_ranked_144 dX1_ranked_145 dX1_ranked_148
  · refine zs_aload_n hE 3 rfl rfl dX1_ranked_54 ?_
    refine zs_callF hE (xx := ⟨"java/util/Iterator", "next", "()Ljava/lang/Object;"⟩) (As := []) (encA := encR) (ci := 8) rfl (fun y0 => met_J28_next K y0) q1094 q129 q1391 (List.mem_of_getElem? (i := 2) rfl) q1092 q1090 hdx_h4 (by decide) (by decide) rfl (by simp [zcat_rf, zcat_i, zcat_j, zcat_f, zcat_d]) (fun z hz => by cases hz) dX1_ranked_55 (fun r11 => ?_)
    show zS _ 60 _ [va_rf r11] _
    refine zs_cast hE q1392 (zc1 rfl (Or.inl rfl)) dX1_ranked_60 ?_
    refine zs_astore hE (i := 4) (by decide) (zcat_rf x3) (lv' := [(0, va_rf (some x0)), (1, .int x1), (2, va_rf (some x2)), (3, va_rf x3)]) rfl dX1_ranked_63 ?_
    refine zs_iconst hE (v := (0 : Int32)) (by decide) dX1_ranked_65 ?_
    refine zs_istore hE (i := 5) (by decide) (zcat_rf r11) (lv' := [(4, va_rf r11), (0, va_rf (some x0)), (1, .int x1), (2, va_rf (some x2)), (3, va_rf x3)]) rfl dX1_ranked_66 ?_
    refine zs_aload_n hE 2 rfl rfl dX1_ranked_68 ?_
    refine zs_getR hE (ci := 24) (k := 0) rfl (by decide) in_X1 (Or.inl q391) (Or.inl rfl) dX1_ranked_69 (fun v12 => ?_)
    refine zs_getR hE (ci := 34) (k := 0) rfl (by decide) in_X2 (Or.inr ⟨_, zn q218 rfl⟩) (Or.inl rfl) dX1_ranked_72 (fun v13 => ?_)
    refine zs_callV hE (As := []) (encA := encR) (ci := 0) rfl (fun y0 => met_J1_values K y0) q427 q98 q1385 q425 (zq q426) hd_J1_values (by decide) (by decide) rfl (by simp [zcat_rf, zcat_i, zcat_j, zcat_f, zcat_d]) (fun z hz => by cases hz) dX1_ranked_75 (fun r14 => ?_)
    show zS _ 78 _ [va_rf r14] _
    refine zs_callF hE (xx := ⟨"java/util/Collection", "iterator", "()Ljava/util/Iterator;"⟩) (As := []) (encA := encR) (ci := 3) rfl (fun y0 => met_J21_iterator K y0) q831 q122 q1387 (List.mem_of_getElem? (i := 0) rfl) q829 q827 hdx_h1 (by decide) (by decide) rfl (by simp [zcat_rf, zcat_i, zcat_j, zcat_f, zcat_d]) (fun z hz => by cases hz) dX1_ranked_78 (fun r15 => ?_)
    show zS _ 83 _ [va_rf r15] _
    refine zs_astore hE (i := 6) (by decide) (rfl) (lv' := [(5, .int (0 : Int32)), (4, va_rf r11), (0, va_rf (some x0)), (1, .int x1), (2, va_rf (some x2)), (3, va_rf x3)]) rfl dX1_ranked_83 ?_
    refine zs_sub [3, 4, 5, 6, 2, 1, 0] rfl ?_
    exact sm_X1_ranked_L85 hE x0 x1 x2 x3 r11 r15 self45 hs45 (0 : Int32)
theorem sm_X1_ranked_L45 {x : ZX Int32} {K : ZK} (hE : zE x K cX1_ranked RX1 "ranked" 8 7 187 encI (Option.some Jvm.ClassFile.FieldType.int) []) (x0 : Nat) (x1 : Int32) (x2 : Nat) (x3 : Option Nat) (v : Unit) : zS x 45 [(0, va_rf (some x0)), (1, .int x1), (2, va_rf (some x2)), (3, va_rf x3)] [] (s_X1_ranked_L45 K x0 x1 x2 x3 v) := by
  unfold s_X1_ranked_L45
  exact zs_loop (lvf := fun v => [(0, va_rf (some x0)), (1, .int x1), (2, va_rf (some x2)), (3, va_rf x3)]) (fun self45 hs45 v => sm_X1_ranked_B45 hE x0 x1 x2 x3 self45 hs45) v
theorem sm_X1_ranked {x : ZX Int32} {K : ZK} (hE : zE x K cX1_ranked RX1 "ranked" 8 7 187 encI (Option.some Jvm.ClassFile.FieldType.int) []) (this : Nat) (a1 : Int32) : zS x 0 [(0, va_rf (some this)), (1, .int a1)] [] (s_X1_ranked K this a1) := by
  unfold s_X1_ranked
  refine zs_iload_n hE 1 rfl rfl dX1_ranked_0 ?_
  refine zs_iconst hE (v := (0 : Int32)) (by decide) dX1_ranked_1 ?_
  refine zs_aload_n hE 0 rfl rfl dX1_ranked_2 ?_
  refine zs_getR hE (ci := 24) (k := 0) rfl (by decide) in_X1 (Or.inl q391) (Or.inl rfl) dX1_ranked_3 (fun v1 => ?_)
  refine zs_getR hE (ci := 34) (k := 0) rfl (by decide) in_X2 (Or.inr ⟨_, zn q218 rfl⟩) (Or.inl rfl) dX1_ranked_6 (fun v2 => ?_)
  refine zs_callV hE (As := []) (encA := encI) (ci := 0) rfl (fun y0 => met_J1_size K y0) q857 q98 q1824 q855 (zq q856) hd_J1_size (by decide) (by decide) rfl (by simp [zcat_rf, zcat_i, zcat_j, zcat_f, zcat_d]) (fun z hz => by cases hz) dX1_ranked_9 (fun r3 => ?_)
  show zS _ 12 _ [.int r3, .int (0 : Int32), .int a1] _
  refine zs_iconst hE (v := (1 : Int32)) (by decide) dX1_ranked_12 ?_
  refine zs_isub hE dX1_ranked_13 ?_
  refine zs_callS hE (As := [.int a1, .int (0 : Int32), .int (r3 - (1 : Int32))]) (encA := encI) (met_X1_isBetween K a1 (0 : Int32) (r3 - (1 : Int32))) q1776 q95 q1774 q1775 hd_X1_isBetween (by decide) (by decide) rfl (by simp [zcat_rf, zcat_i, zcat_j, zcat_f, zcat_d]) (fun z hz => by cases hz) dX1_ranked_14 (fun r4 => ?_)
  show zS _ 17 _ [.int r4] _
  refine zs_callS hE (As := [.int r4]) (encA := encV) (met_X1_checkElement K r4) q2156 q95 q2154 q2155 hd_X1_checkElement (by decide) (by decide) rfl (by simp [zcat_rf, zcat_i, zcat_j, zcat_f, zcat_d]) (fun z hz => by cases hz) dX1_ranked_17 (fun _ => ?_)
  show zS _ 20 _ [] _
  refine zs_new hE (ci := 26) (fs := [.null]) rfl in_X11 tyX11 tyX11_ok q2408 q2409 q152 (fun j hj => by rcases (show j = 0 by omega) with rfl; rfl) dX1_ranked_20 (fun q5 => ?_)
  refine zs_dup hE (zcat_rf _) dX1_ranked_23 ?_
  refine zs_aload_n hE 0 rfl rfl dX1_ranked_24 ?_
  refine zs_callI hE (As := [va_rf (some this)]) (encA := encV) (met_X11_init K q5 (some this)) q2412 q152 q2410 q2411 rfl hd_X11_init (by decide) (by decide) rfl (by simp [zcat_rf, zcat_i, zcat_j, zcat_f, zcat_d]) (fun z hz => by cases hz) dX1_ranked_25 (fun _ => ?_)
  show zS _ 28 _ [va_rf (some q5)] _
  refine zs_astore_n hE (i := 2) (q := 2) rfl (by decide) (rfl) (lv' := [(0, va_rf (some this)), (1, .int a1)]) rfl dX1_ranked_28 ?_
  refine zs_aload_n hE 1 rfl rfl dX1_ranked_29 ?_
  refine zs_getR hE (ci := 24) (k := 0) rfl (by decide) in_X1 (Or.inl q391) (Or.inl rfl) dX1_ranked_30 (fun v6 => ?_)
  refine zs_getR hE (ci := 34) (k := 0) rfl (by decide) in_X2 (Or.inr ⟨_, zn q218 rfl⟩) (Or.inl rfl) dX1_ranked_33 (fun v7 => ?_)
  refine zs_callV hE (As := []) (encA := encR) (ci := 0) rfl (fun y0 => met_J1_values K y0) q427 q98 q1385 q425 (zq q426) hd_J1_values (by decide) (by decide) rfl (by simp [zcat_rf, zcat_i, zcat_j, zcat_f, zcat_d]) (fun z hz => by cases hz) dX1_ranked_36 (fun r8 => ?_)
  show zS _ 39 _ [va_rf r8] _
  refine zs_callF hE (xx := ⟨"java/util/Collection", "iterator", "()Ljava/util/Iterator;"⟩) (As := []) (encA := encR) (ci := 3) rfl (fun y0 => met_J21_iterator K y0) q831 q122 q1387 (List.mem_of_getElem? (i := 0) rfl) q829 q827 hdx_h1 (by decide) (by decide) rfl (by simp [zcat_rf, zcat_i, zcat_j, zcat_f, zcat_d]) (fun z hz => by cases hz) dX1_ranked_39 (fun r9 => ?_)
  show zS _ 44 _ [va_rf r9] _
  refine zs_astore_n hE (i := 3) (q := 3) rfl (by decide) (zcat_rf (some q5)) (lv' := [(2, va_rf (some q5)), (0, va_rf (some this)), (1, .int a1)]) rfl dX1_ranked_44 ?_
  refine zs_sub [2, 3, 1, 0] rfl ?_
  exact sm_X1_ranked_L45 hE this a1 q5 r9 ()
theorem hd_X1_ranked : (yX1_ranked).cls ≠ "java/lang/invoke/MethodHandle" ∧ (yX1_ranked).cls ≠ "java/lang/invoke/VarHandle" ∧ (parseMethodDescriptor (yX1_ranked).desc).map (fun d => d.parameters.length) = some 1 := by decide +kernel
theorem met_X1_ranked (K : ZK) (this : Nat) (a1 : Int32) : zMeth K yX1_ranked (zws yX1_ranked cX1_ranked 8 (Option.some Jvm.ClassFile.FieldType.int)) 7 187 [.ref this, .int a1] encI (s_X1_ranked K this a1) :=
  fun l G hl hK => zmet_of hl hK (by decide +kernel) rfl rfl (by simp [zsl_nil, zsl_rf, zsl_r, zsl_i, zsl_j, zsl_f, zsl_d]) (fun x hE => by simp only [zla_nil, zla_rf, zla_r, zla_i, zla_j, zla_f, zla_d, Nat.reduceAdd]; exact sm_X1_ranked hE this a1)
theorem sm_X0_ranked {x : ZX Int32} {K : ZK} (hE : zE x K cX0_ranked RX0 "ranked" 4 8 214 encI (Option.some Jvm.ClassFile.FieldType.int) (tableOf [((0 : Nat), (9 : Nat), (12 : Nat), (46 : Nat))])) (a1 : Option Nat) (a2 : Int32) (a3 : Option Nat) : zS x 0 [(0, va_rf a1), (1, .int a2), (2, va_rf a3)] [] (s_X0_ranked K a1 a2 a3) := by
  unfold s_X0_ranked
  refine zs_aload_n hE 2 rfl rfl dX0_ranked_0 ?_
  refine zs_iconst hE (v := (0 : Int32)) (by decide) dX0_ranked_1 ?_
  refine zs_aload_n hE 0 rfl rfl dX0_ranked_2 ?_
  refine zs_iload_n hE 1 rfl rfl dX0_ranked_3 ?_
  refine zs_callVT hE (As := [.int a2]) (encA := encI) (ci := 24) rfl (fun y0 => met_X1_ranked K y0 a2) q2407 q95 q2404 q2405 (zq q2406) hd_X1_ranked (by decide) (by decide) rfl (by simp [zcat_rf, zcat_i, zcat_j, zcat_f, zcat_d]) (zhl_cons (zhnd (tableOf []) (tableOf []) ⟨0, 9, 12, 46⟩ rfl (fun w hw => by cases hw) (by decide) (by decide) q2149 (zn q940 rfl) (fun q1 => ?_)) zhl_nil) dX0_ranked_4 (fun r2 => ?_)
  · have hE := zE_q q1 3 hE
    have hq := zqin_q (x := x) q1 3
    refine zs_astore_n hE (i := 3) (q := 3) rfl (by decide) (zcat_rf a3) (lv' := [(0, va_rf a1), (1, .int a2), (2, va_rf a3)]) rfl dX0_ranked_12 ?_
    refine zs_iconst hE (v := (1 : Int32)) (by decide) dX0_ranked_13 ?_
    exact zs_iret hE dX0_ranked_14
  · show zS _ 7 _ [.int r2, .int (0 : Int32), va_rf a3] _
    refine zs_i2l hE dX0_ranked_7 ?_
    refine zs_astJ hE dX0_ranked_8 ?_
    refine zs_goto hE 15 (by decide) dX0_ranked_9 ?_
    refine zs_iconst hE (v := (0 : Int32)) (by decide) dX0_ranked_15 ?_
    exact zs_iret hE dX0_ranked_16
theorem hd_X0_ranked : (yX0_ranked).cls ≠ "java/lang/invoke/MethodHandle" ∧ (yX0_ranked).cls ≠ "java/lang/invoke/VarHandle" ∧ (parseMethodDescriptor (yX0_ranked).desc).map (fun d => d.parameters.length) = some 3 := by decide +kernel
theorem met_X0_ranked (K : ZK) (a1 : Option Nat) (a2 : Int32) (a3 : Option Nat) : zMeth K yX0_ranked (zwsW yX0_ranked cX0_ranked 4 (Option.some Jvm.ClassFile.FieldType.int) [((0 : Nat), (9 : Nat), (12 : Nat), (46 : Nat))]) 8 214 [va_rf a1, .int a2, va_rf a3] encI (s_X0_ranked K a1 a2 a3) :=
  fun l G hl hK => zmet_ofH hl hK (by decide +kernel) rfl rfl (by simp [zsl_nil, zsl_rf, zsl_r, zsl_i, zsl_j, zsl_f, zsl_d]) (fun x hE => by simp only [zla_nil, zla_rf, zla_r, zla_i, zla_j, zla_f, zla_d, Nat.reduceAdd]; exact sm_X0_ranked hE a1 a2 a3)
