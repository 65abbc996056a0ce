/-! THE COMPONENT's WALKS, printed by tools/mk_x.py -/
theorem hd_J8_min_2 : yJ8_min_2.cls ≠ "java/lang/invoke/MethodHandle" ∧ yJ8_min_2.cls ≠ "java/lang/invoke/VarHandle" ∧ (parseMethodDescriptor yJ8_min_2.desc).map (fun d => d.parameters.length) = some 2 := by decide +kernel
set_option maxHeartbeats 4000000 in
set_option maxRecDepth 100000 in
theorem wk_J8_min_2 {X : XC} {w0 : XS} (O : XOk X cJ8_min_2 RJ8 0 0) (hr : (xMeth X).sig.returnType = some .long) (hm : (xC X).maxLocals = 4) (x0 : Int64) (x2 : Int64) (s : Unit) : Sim X (fun _ : Unit => w0) (retC X eL (fun _ : Unit => w0)) 0 [(0, .long x0), (2, .long x2)] [] s (j8_min_2 x0 x2 s) := by
  unfold j8_min_2
  refine s_lload_n O 0 rfl rfl dJ8_min_2_0 ?_
  refine s_lload_n O 1 rfl rfl dJ8_min_2_1 ?_
  refine s_lcmp_gt O (tgt := 10) dJ8_min_2_2 dJ8_min_2_3 (by decide) ?_ ?_
  · refine s_lload_n O 1 rfl rfl dJ8_min_2_10 ?_
    exact s_lreturn O hr rfl dJ8_min_2_11
  · refine s_lload_n O 0 rfl rfl dJ8_min_2_6 ?_
    refine s_goto O (tgt := 11) dJ8_min_2_7 (by decide) ?_
    exact s_lreturn O hr rfl dJ8_min_2_11
theorem mt_J8_min_2 (l : Launch) (G : XG) (w0 : XS) (x0 : Int64) (x2 : Int64) (v : Int64) (h : j8_min_2 x0 x2 () = some (v, ())) : xMet l yJ8_min_2 (ws_ yJ8_min_2 cJ8_min_2 4 (some .long)) 0 0 G w0 [.long x0, .long x2] (eL v) w0 :=
  xMet_of (E := fun _ : Unit => w0) (enc := eL) (t := ()) (by decide +kernel) (Nat.le_of_ble_eq_true rfl) (fun X hl hG O hr hm => wk_J8_min_2 O hr hm x0 x2 ()) h
theorem hd_X0_gcd : yX0_gcd.cls ≠ "java/lang/invoke/MethodHandle" ∧ yX0_gcd.cls ≠ "java/lang/invoke/VarHandle" ∧ (parseMethodDescriptor yX0_gcd.desc).map (fun d => d.parameters.length) = some 2 := by decide +kernel
theorem hv_X0_gcd : yX0_gcd.cls = RX0 ∧ yX0_gcd.cls ≠ "java/lang/invoke/MethodHandle" ∧ yX0_gcd.cls ≠ "java/lang/invoke/VarHandle" ∧ (parseMethodDescriptor yX0_gcd.desc).map (fun d => d.parameters.length) = some 2 := ⟨rfl, hd_X0_gcd⟩
theorem hu_X0_gcd : yX0_gcd.name ≠ "<init>" ∧ (parseMethodDescriptor yX0_gcd.desc).map (fun d => d.parameters.length) = some 2 := ⟨by decide +kernel, hd_X0_gcd.2.2⟩
set_option maxHeartbeats 4000000 in
set_option maxRecDepth 100000 in
theorem wk_X0_gcd {X : XC} {F Lo fr0 lo0 : Nat} (O : XOk X cX0_gcd RX0 F Lo) (hf1 : fr0 + 1 ≤ F ∧ 8 + (4 + 11) + lo0 ≤ Lo) (hf2 : 0 ≤ F ∧ 0 ≤ Lo) (hfl : (xL X).stackTraces = false) (hg : (xG X).2.2.2.2 = zAll (xG X).1.1 (xG X).1.2.2.2 (xG X).2.2.2.1) (hr : (xMeth X).sig.returnType = (some .long)) (hm : (xC X).maxLocals = 4) (rc : Int64 → Int64 → XS → Option ((Int64) × XS)) (ih : ∀ (x0 : Int64) (x2 : Int64) (s t : XS) (v : Int64), rc x0 x2 s = some (v, t) → xMet (xL X) yX0_gcd (ws_ yX0_gcd cX0_gcd 4 (some .long)) fr0 lo0 (xG X) (xI s) [.long x0, .long x2] (eL v) (xI t)) (x0 : Int64) (x2 : Int64) (s : XS) : Sim X xI (retC X eL xI) 0 [(0, .long x0), (2, .long x2)] [] s (x0_gcd_b rc x0 x2 s) := by
  have hzz := O.hst
  rw [hg] at hzz
  unfold x0_gcd_b
  refine s_lload_n O 1 rfl rfl dX0_gcd_0 ?_
  refine s_lconst O (x := 0) (by decide) dX0_gcd_1 ?_
  refine s_lcmp_ne O (tgt := 10) dX0_gcd_2 dX0_gcd_3 (by decide) ?_ ?_
  · refine s_lload_n O 1 rfl rfl dX0_gcd_10 ?_
    refine s_lload_n O 0 rfl rfl dX0_gcd_11 ?_
    refine s_lload_n O 1 rfl rfl dX0_gcd_12 ?_
    refine s_lrem O dX0_gcd_13 ?_
    refine x_callS O (enc2 := eL) (av := [.long x2, .long (x0 - x0 / x2 * x2)]) (rest := []) 2 (fun v0 t0 h0 => ih x2 (x0 - x0 / x2 * x2) _ t0 v0 h0) (lw_S q1081 q1082 q131 q1083) hd_X0_gcd hf1 rfl (Nat.le_of_ble_eq_true rfl) dX0_gcd_14 (fun v1 s2 => ?_)
    exact s_lreturn O hr rfl dX0_gcd_17
  · refine s_lload_n O 0 rfl rfl dX0_gcd_6 ?_
    refine s_goto O (tgt := 17) dX0_gcd_7 (by decide) ?_
    exact s_lreturn O hr rfl dX0_gcd_17
theorem mt_X0_gcd (l : Launch) (G : XG) (hfl : l.stackTraces = false) (hg : G.2.2.2.2 = zAll G.1.1 G.1.2.2.2 G.2.2.2.1) : ∀ (n : Nat) (x0 : Int64) (x2 : Int64) (s t : XS) (v : Int64) (h : x0_gcd n x0 x2 s = some (v, t)), xMet l yX0_gcd (ws_ yX0_gcd cX0_gcd 4 (some .long)) (0 + n) (0 + 23 * n) G (xI s) [.long x0, .long x2] (eL v) (xI t) := by
  intro n
  induction n with
  | zero => intro x0 x2 s t v h; cases h
  | succ n ih =>
    intro x0 x2 s t v h
    exact xMet_of (E := xI) (enc := eL) (fr := 0 + (n + 1)) (lo := 0 + 23 * (n + 1)) (by decide +kernel) (Nat.le_of_ble_eq_true rfl) (fun X hl hG O hr hm => by subst hl; subst hG; exact wk_X0_gcd O (fr0 := 0 + n) (lo0 := 0 + 23 * n) ⟨by omega, by omega⟩ ⟨by omega, by omega⟩ hfl hg hr hm (x0_gcd n) ih x0 x2 s) h
theorem hd_X0_waysHeld : yX0_waysHeld.cls ≠ "java/lang/invoke/MethodHandle" ∧ yX0_waysHeld.cls ≠ "java/lang/invoke/VarHandle" ∧ (parseMethodDescriptor yX0_waysHeld.desc).map (fun d => d.parameters.length) = some 2 := by decide +kernel
theorem hv_X0_waysHeld : yX0_waysHeld.cls = RX0 ∧ yX0_waysHeld.cls ≠ "java/lang/invoke/MethodHandle" ∧ yX0_waysHeld.cls ≠ "java/lang/invoke/VarHandle" ∧ (parseMethodDescriptor yX0_waysHeld.desc).map (fun d => d.parameters.length) = some 2 := ⟨rfl, hd_X0_waysHeld⟩
theorem hu_X0_waysHeld : yX0_waysHeld.name ≠ "<init>" ∧ (parseMethodDescriptor yX0_waysHeld.desc).map (fun d => d.parameters.length) = some 2 := ⟨by decide +kernel, hd_X0_waysHeld.2.2⟩
set_option maxHeartbeats 4000000 in
set_option maxRecDepth 100000 in
theorem wk_X0_waysHeld {X : XC} (O : XOk X cX0_waysHeld RX0 201 4623) (hfl : (xL X).stackTraces = false) (hg : (xG X).2.2.2.2 = zAll (xG X).1.1 (xG X).1.2.2.2 (xG X).2.2.2.1) (hr : (xMeth X).sig.returnType = (some .long)) (hm : (xC X).maxLocals = 14) (x0 : Int64) (x2 : Int64) (s : XS) : Sim X xI (retC X eL xI) 0 [(0, .long x0), (2, .long x2)] [] s (x0_waysHeld x0 x2 s) := by
  have hzz := O.hst
  rw [hg] at hzz
  unfold x0_waysHeld
  refine s_lload_n O 1 rfl rfl dX0_waysHeld_0 ?_
  refine s_lload_n O 0 rfl rfl dX0_waysHeld_1 ?_
  refine s_lcmp_le O (tgt := 8) dX0_waysHeld_2 dX0_waysHeld_3 (by decide) ?_ ?_
  · refine s_lload_n O 1 rfl rfl dX0_waysHeld_8 ?_
    refine s_lload_n O 0 rfl rfl dX0_waysHeld_9 ?_
    refine s_lload_n O 1 rfl rfl dX0_waysHeld_10 ?_
    refine s_lsub O dX0_waysHeld_11 ?_
    refine s_callP O (enc2 := eL) (av := [.long x2, .long (x0 - x2)]) (rest := []) 2 (fun v0 h0 => mt_J8_min_2 (xL X) (xG X) _ x2 (x0 - x2) v0 h0) (lw_S q1078 q1079 q143 q1080) hd_J8_min_2 ⟨Nat.le_of_ble_eq_true rfl, Nat.le_of_ble_eq_true rfl⟩ rfl (Nat.le_of_ble_eq_true rfl) dX0_waysHeld_12 (fun v1 => ?_)
    refine s_lstore O (L' := [(4, .long v1), (0, .long x0), (2, .long x2)]) hm (by decide) rfl dX0_waysHeld_15 ?_
    refine s_lconst O (x := 1) (by decide) dX0_waysHeld_17 ?_
    refine s_lstore O (L' := [(6, .long 1), (4, .long v1), (0, .long x0), (2, .long x2)]) hm (by decide) rfl dX0_waysHeld_18 ?_
    refine s_lconst O (x := 1) (by decide) dX0_waysHeld_20 ?_
    refine s_lstore O (L' := [(8, .long 1), (6, .long 1), (4, .long v1), (0, .long x0), (2, .long x2)]) hm (by decide) rfl dX0_waysHeld_21 ?_
    refine Sim.sub (L' := [(0, .long x0), (4, .long v1), (6, .long 1), (8, .long 1)]) [3, 2, 1, 0] rfl ?_
    refine s_while (A := Int64 × Int64) (B := (Unit) ⊕ (Int64)) (La := fun a23 => [(0, .long x0), (4, .long v1), (6, .long a23.1), (8, .long a23.2)]) (We := fun bb0 s9 => match bb0 with | .inl b23 => xWX X 70 [] [] ((xI) s9) | .inr b23 => xWX X 93 [(6, .long b23)] [] ((xI) s9)) rfl rfl ?_ ?_
    · intro Cl hn he a23 s3
      unfold x0_waysHeld_s23
      refine s_lload O 3 rfl dX0_waysHeld_23 ?_
      refine s_lload O 1 rfl dX0_waysHeld_25 ?_
      refine s_lcmp_gt O (tgt := 93) dX0_waysHeld_27 dX0_waysHeld_28 (by decide) ?_ ?_
      · refine Sim.sub (L' := [(6, .long a23.1)]) [2] rfl ?_
        exact Sim.ret (he _ _)
      · refine s_lload O 2 rfl dX0_waysHeld_31 ?_
        refine s_lload O 3 rfl dX0_waysHeld_33 ?_
        refine x_callS O (enc2 := eL) (av := [.long a23.1, .long a23.2]) (rest := []) 2 (fun v0 t0 h0 => mt_X0_gcd (xL X) (xG X) hfl hg 200 a23.1 a23.2 _ t0 v0 h0) (lw_S q1081 q1082 q131 q1083) hd_X0_gcd ⟨Nat.le_of_ble_eq_true rfl, Nat.le_of_ble_eq_true rfl⟩ rfl (Nat.le_of_ble_eq_true rfl) dX0_waysHeld_35 (fun v4 s5 => ?_)
        refine s_lstore O (L' := [(10, .long v4), (0, .long x0), (4, .long v1), (6, .long a23.1), (8, .long a23.2)]) hm (by decide) rfl dX0_waysHeld_38 ?_
        refine s_lload_n O 1 rfl rfl dX0_waysHeld_40 ?_
        refine s_lload O 2 rfl dX0_waysHeld_41 ?_
        refine s_lsub O dX0_waysHeld_43 ?_
        refine s_lload O 4 rfl dX0_waysHeld_44 ?_
        refine s_ladd O dX0_waysHeld_46 ?_
        refine s_lload O 4 rfl dX0_waysHeld_47 ?_
        refine s_lload O 0 rfl dX0_waysHeld_49 ?_
        refine s_ldiv O dX0_waysHeld_51 ?_
        refine s_ldiv O dX0_waysHeld_52 ?_
        refine s_nml fun w6 => ?_
        refine s_lstore O (L' := [(12, .long w6), (10, .long v4), (0, .long x0), (4, .long v1), (6, .long a23.1), (8, .long a23.2)]) hm (by decide) rfl dX0_waysHeld_53 ?_
        refine s_lload O 4 rfl dX0_waysHeld_55 ?_
        refine s_lload O 1 rfl dX0_waysHeld_57 ?_
        refine s_ldiv O dX0_waysHeld_59 ?_
        refine s_ldc2 O (x := 4000000000000) q1084 dX0_waysHeld_60 ?_
        refine s_lload O 0 rfl dX0_waysHeld_63 ?_
        refine s_ldiv O dX0_waysHeld_65 ?_
        refine s_lcmp_le O (tgt := 74) dX0_waysHeld_66 dX0_waysHeld_67 (by decide) ?_ ?_
        · refine s_lload O 4 rfl dX0_waysHeld_74 ?_
          refine s_lload O 1 rfl dX0_waysHeld_76 ?_
          refine s_ldiv O dX0_waysHeld_78 ?_
          refine s_lload O 0 rfl dX0_waysHeld_79 ?_
          refine s_lmul O dX0_waysHeld_81 ?_
          refine s_nml fun w7 => ?_
          refine s_lstore O (L' := [(6, .long w7), (12, .long w6), (10, .long v4), (0, .long x0), (4, .long v1), (8, .long a23.2)]) hm (by decide) rfl dX0_waysHeld_82 ?_
          refine s_lload O 5 rfl dX0_waysHeld_84 ?_
          refine s_lconst O (x := 1) (by decide) dX0_waysHeld_86 ?_
          refine s_ladd O dX0_waysHeld_87 ?_
          refine s_nml fun w8 => ?_
          refine s_lstore O (L' := [(8, .long w8), (6, .long w7), (12, .long w6), (10, .long v4), (0, .long x0), (4, .long v1)]) hm (by decide) rfl dX0_waysHeld_88 ?_
          refine s_goto O (tgt := 23) dX0_waysHeld_90 (by decide) ?_
          refine Sim.sub (L' := [(0, .long x0), (4, .long v1), (6, .long w7), (8, .long w8)]) [4, 5, 1, 0] rfl ?_
          exact Sim.ret (hn _ _)
        · refine Sim.sub (L' := []) [] rfl ?_
          exact Sim.ret (he _ _)
    · intro bb0 s9
      rcases bb0 with b23 | b23
      · show Sim X (xI) (retC X eL xI) 70 [] [] s9 _
        dsimp only
        refine s_ldc2 O (x := 4000000000000) q1084 dX0_waysHeld_70 ?_
        exact s_lreturn O hr rfl dX0_waysHeld_73
      · show Sim X (xI) (retC X eL xI) 93 [(6, .long b23)] [] s9 _
        dsimp only
        refine s_lload O 0 rfl dX0_waysHeld_93 ?_
        refine s_ldc2 O (x := 4000000000000) q1084 dX0_waysHeld_95 ?_
        refine s_callP O (enc2 := eL) (av := [.long b23, .long 4000000000000]) (rest := []) 2 (fun v0 h0 => mt_J8_min_2 (xL X) (xG X) _ b23 4000000000000 v0 h0) (lw_S q1078 q1079 q143 q1080) hd_J8_min_2 ⟨Nat.le_of_ble_eq_true rfl, Nat.le_of_ble_eq_true rfl⟩ rfl (Nat.le_of_ble_eq_true rfl) dX0_waysHeld_98 (fun v10 => ?_)
        exact s_lreturn O hr rfl dX0_waysHeld_101
  · refine s_lconst O (x := 0) (by decide) dX0_waysHeld_6 ?_
    exact s_lreturn O hr rfl dX0_waysHeld_7
theorem mt_X0_waysHeld (l : Launch) (G : XG) (hfl : l.stackTraces = false) (hg : G.2.2.2.2 = zAll G.1.1 G.1.2.2.2 G.2.2.2.1) (x0 : Int64) (x2 : Int64) (s t : XS) (v : Int64) (h : x0_waysHeld x0 x2 s = some (v, t)) : xMet l yX0_waysHeld (ws_ yX0_waysHeld cX0_waysHeld 14 (some .long)) 201 4623 G (xI s) [.long x0, .long x2] (eL v) (xI t) :=
  xMet_of (E := xI) (enc := eL) (by decide +kernel) (Nat.le_of_ble_eq_true rfl) (fun X hl hG O hr hm => by subst hl; subst hG; exact wk_X0_waysHeld O hfl hg hr hm x0 x2 s) h
theorem hd_X6_greatest : yX6_greatest.cls ≠ "java/lang/invoke/MethodHandle" ∧ yX6_greatest.cls ≠ "java/lang/invoke/VarHandle" ∧ (parseMethodDescriptor yX6_greatest.desc).map (fun d => d.parameters.length) = some 2 := by decide +kernel
theorem hv_X6_greatest : yX6_greatest.cls = RX6 ∧ yX6_greatest.cls ≠ "java/lang/invoke/MethodHandle" ∧ yX6_greatest.cls ≠ "java/lang/invoke/VarHandle" ∧ (parseMethodDescriptor yX6_greatest.desc).map (fun d => d.parameters.length) = some 2 := ⟨rfl, hd_X6_greatest⟩
theorem hu_X6_greatest : yX6_greatest.name ≠ "<init>" ∧ (parseMethodDescriptor yX6_greatest.desc).map (fun d => d.parameters.length) = some 2 := ⟨by decide +kernel, hd_X6_greatest.2.2⟩
set_option maxHeartbeats 4000000 in
set_option maxRecDepth 100000 in
theorem wk_X6_greatest {X : XC} (O : XOk X cX6_greatest RX6 202 4656) (hfl : (xL X).stackTraces = false) (hg : (xG X).2.2.2.2 = zAll (xG X).1.1 (xG X).1.2.2.2 (xG X).2.2.2.1) (hr : (xMeth X).sig.returnType = (some .long)) (hm : (xC X).maxLocals = 9) (x0 : Int64) (x2 : Int32) (s : XS) : Sim X xI (retC X eL xI) 0 [(0, .long x0), (2, .int x2)] [] s (x6_greatest x0 x2 s) := by
  have hzz := O.hst
  rw [hg] at hzz
  unfold x6_greatest
  refine s_iload_n O 1 rfl rfl dX6_greatest_0 ?_
  refine s_i2l O dX6_greatest_1 ?_
  refine s_nml fun w1 => ?_
  refine s_lstore_n O (L' := [(3, .long w1), (0, .long x0), (2, .int x2)]) hm (by decide) rfl rfl dX6_greatest_2 ?_
  refine s_lload_n O 1 rfl rfl dX6_greatest_3 ?_
  refine s_iload_n O 2 rfl rfl dX6_greatest_4 ?_
  refine s_i2l O dX6_greatest_5 ?_
  refine s_ladd O dX6_greatest_6 ?_
  refine s_nml fun w2 => ?_
  refine s_lstore O (L' := [(5, .long w2), (3, .long w1), (0, .long x0), (2, .int x2)]) hm (by decide) rfl dX6_greatest_7 ?_
  refine Sim.sub (L' := [(0, .long x0), (2, .int x2), (3, .long w1), (5, .long w2)]) [2, 3, 1, 0] rfl ?_
  refine s_while (A := Int64 × Int64) (B := Int64) (La := fun a9 => [(0, .long x0), (2, .int x2), (3, .long a9.1), (5, .long a9.2)]) (We := fun b9 s8 => xWX X 55 [(3, .long b9)] [] ((xI) s8)) rfl rfl ?_ ?_
  · intro Cl hn he a9 s3
    unfold x6_greatest_s9
    refine s_lload_n O 2 rfl rfl dX6_greatest_9 ?_
    refine s_lload O 3 rfl dX6_greatest_10 ?_
    refine s_lcmp_ge O (tgt := 55) dX6_greatest_12 dX6_greatest_13 (by decide) ?_ ?_
    · refine Sim.sub (L' := [(3, .long a9.1)]) [2] rfl ?_
      exact Sim.ret (he _ _)
    · refine s_lload_n O 2 rfl rfl dX6_greatest_16 ?_
      refine s_lload O 3 rfl dX6_greatest_17 ?_
      refine s_ladd O dX6_greatest_19 ?_
      refine s_lconst O (x := 1) (by decide) dX6_greatest_20 ?_
      refine s_ladd O dX6_greatest_21 ?_
      refine s_ldc2 O (x := 2) q1074 dX6_greatest_22 ?_
      refine s_ldiv O dX6_greatest_25 ?_
      refine s_nml fun w4 => ?_
      refine s_lstore O (L' := [(7, .long w4), (0, .long x0), (2, .int x2), (3, .long a9.1), (5, .long a9.2)]) hm (by decide) rfl dX6_greatest_26 ?_
      refine s_lload O 0 rfl dX6_greatest_28 ?_
      refine s_iload_n O 2 rfl rfl dX6_greatest_30 ?_
      refine s_i2l O dX6_greatest_31 ?_
      refine x_callSN O (enc2 := eL) (av := [.long w4, .long x2.toInt64]) (rest := []) 2 (fun v0 t0 h0 => mt_X0_waysHeld (xL X) (xG X) hfl hg w4 x2.toInt64 _ t0 v0 h0) q1077 (zm_q1075 hzz) q131 q1076 hd_X0_waysHeld ⟨Nat.le_of_ble_eq_true rfl, Nat.le_of_ble_eq_true rfl⟩ rfl (Nat.le_of_ble_eq_true rfl) dX6_greatest_32 (fun v5 s6 => ?_)
      refine s_lload_n O 1 rfl rfl dX6_greatest_35 ?_
      refine s_lcmp_gt O (tgt := 46) dX6_greatest_36 dX6_greatest_37 (by decide) ?_ ?_
      · refine s_lload O 0 rfl dX6_greatest_46 ?_
        refine s_lconst O (x := 1) (by decide) dX6_greatest_48 ?_
        refine s_lsub O dX6_greatest_49 ?_
        refine s_nml fun w7 => ?_
        refine s_lstore O (L' := [(5, .long w7), (7, .long w4), (0, .long x0), (2, .int x2), (3, .long a9.1)]) hm (by decide) rfl dX6_greatest_50 ?_
        refine s_goto O (tgt := 9) dX6_greatest_52 (by decide) ?_
        refine Sim.sub (L' := [(0, .long x0), (2, .int x2), (3, .long a9.1), (5, .long w7)]) [2, 3, 4, 0] rfl ?_
        exact Sim.ret (hn _ _)
      · refine s_lload O 0 rfl dX6_greatest_40 ?_
        refine s_lstore_n O (L' := [(3, .long w4), (7, .long w4), (0, .long x0), (2, .int x2), (5, .long a9.2)]) hm (by decide) rfl rfl dX6_greatest_42 ?_
        refine s_goto O (tgt := 52) dX6_greatest_43 (by decide) ?_
        refine s_goto O (tgt := 9) dX6_greatest_52 (by decide) ?_
        refine Sim.sub (L' := [(0, .long x0), (2, .int x2), (3, .long w4), (5, .long a9.2)]) [2, 3, 0, 4] rfl ?_
        exact Sim.ret (hn _ _)
  · intro b9 s8
    show Sim X (xI) (retC X eL xI) 55 [(3, .long b9)] [] s8 _
    refine s_lload_n O 0 rfl rfl dX6_greatest_55 ?_
    exact s_lreturn O hr rfl dX6_greatest_56
theorem mt_X6_greatest (l : Launch) (G : XG) (hfl : l.stackTraces = false) (hg : G.2.2.2.2 = zAll G.1.1 G.1.2.2.2 G.2.2.2.1) (x0 : Int64) (x2 : Int32) (s t : XS) (v : Int64) (h : x6_greatest x0 x2 s = some (v, t)) : xMet l yX6_greatest (ws_ yX6_greatest cX6_greatest 9 (some .long)) 202 4656 G (xI s) [.long x0, .int x2] (eL v) (xI t) :=
  xMet_of (E := xI) (enc := eL) (by decide +kernel) (Nat.le_of_ble_eq_true rfl) (fun X hl hG O hr hm => by subst hl; subst hG; exact wk_X6_greatest O hfl hg hr hm x0 x2 s) h
theorem hd_X6_init : yX6_init.cls ≠ "java/lang/invoke/MethodHandle" ∧ yX6_init.cls ≠ "java/lang/invoke/VarHandle" ∧ (parseMethodDescriptor yX6_init.desc).map (fun d => d.parameters.length) = some 2 := by decide +kernel
theorem hv_X6_init : yX6_init.cls = RX6 ∧ yX6_init.cls ≠ "java/lang/invoke/MethodHandle" ∧ yX6_init.cls ≠ "java/lang/invoke/VarHandle" ∧ (parseMethodDescriptor yX6_init.desc).map (fun d => d.parameters.length) = some 2 := ⟨rfl, hd_X6_init⟩
set_option maxHeartbeats 4000000 in
set_option maxRecDepth 100000 in
theorem wk_X6_init {X : XC} (O : XOk X cX6_init RX6 203 4684) (hfl : (xL X).stackTraces = false) (hg : (xG X).2.2.2.2 = zAll (xG X).1.1 (xG X).1.2.2.2 (xG X).2.2.2.1) (hr : (xMeth X).sig.returnType = none) (hm : (xC X).maxLocals = 7) (hinit : (xMeth X).name = "<init>") (o : Nat) (x1 : Int64) (x3 : Int32) (s : XS) : Sim X xI (retC X eU xI) 0 [(0, .ref o), (1, .long x1), (3, .int x3)] [] s (x6_init o x1 x3 s) := by
  have hzz := O.hst
  rw [hg] at hzz
  unfold x6_init
  refine s_aload_n O 0 rfl rfl dX6_init_0 ?_
  refine x_objInit O q1070 q163 q164 ⟨Nat.le_of_ble_eq_true rfl, Nat.le_of_ble_eq_true rfl⟩ (Nat.le_of_ble_eq_true rfl) dX6_init_1 ?_
  refine s_aload_n O 0 rfl rfl dX6_init_4 ?_
  refine s_bipush O (x := 42) (by decide) dX6_init_5 ?_
  refine x_newL O q1015 dX6_init_7 (fun p1 s2 => ?_)
  refine x_putF O (ci := 6) (T := TX6) (N := 3) (ty := (.array .long)) in_X6 tyX6 tyX6_ok nmX6 rfl 0 (by decide) q1085 (fun _ h => h) rfl hinit rfl (by decide +kernel) rfl rfl dX6_init_9 (fun s3 => ?_)
  refine s_aload_n O 0 rfl rfl dX6_init_12 ?_
  refine s_bipush O (x := 42) (by decide) dX6_init_13 ?_
  refine x_put O (ci := 6) (T := TX6) (N := 3) (ty := .int) in_X6 tyX6 tyX6_ok nmX6 rfl 2 (by decide) q1087 (fun _ h => h) rfl (by decide +kernel) rfl rfl dX6_init_15 (fun s4 => ?_)
  refine s_aload_n O 0 rfl rfl dX6_init_18 ?_
  refine s_iload_n O 2 rfl rfl dX6_init_19 ?_
  refine x_putF O (ci := 6) (T := TX6) (N := 3) (ty := .int) in_X6 tyX6 tyX6_ok nmX6 rfl 1 (by decide) q1086 (fun _ h => h) rfl hinit rfl (by decide +kernel) rfl rfl dX6_init_20 (fun s5 => ?_)
  refine s_lload_n O 1 rfl rfl dX6_init_23 ?_
  refine s_lstore O (L' := [(4, .long x1), (0, .ref o), (1, .long x1), (3, .int x3)]) hm (by decide) rfl dX6_init_24 ?_
  refine s_iload_n O 3 rfl rfl dX6_init_26 ?_
  refine s_istore O (L' := [(6, .int x3), (4, .long x1), (0, .ref o), (1, .long x1), (3, .int x3)]) hm (by decide) rfl dX6_init_27 ?_
  refine Sim.sub (L' := [(0, .ref o), (4, .long x1), (6, .int x3)]) [2, 1, 0] rfl ?_
  refine s_while (A := Int64 × Int32) (B := Unit) (La := fun a29 => [(0, .ref o), (4, .long a29.1), (6, .int a29.2)]) (We := fun b29 s21 => xWX X 85 [] [] ((xI) s21)) rfl rfl ?_ ?_
  · intro Cl hn he a29 s6
    unfold x6_init_s29
    refine s_iload O 2 rfl dX6_init_29 ?_
    refine s_if_le O (tgt := 85) dX6_init_31 (by decide) ?_ ?_
    · refine Sim.sub (L' := []) [] rfl ?_
      exact Sim.ret (he _ _)
    · refine s_lload O 1 rfl dX6_init_34 ?_
      refine s_lconst O (x := 0) (by decide) dX6_init_36 ?_
      refine s_lcmp_le O (tgt := 85) dX6_init_37 dX6_init_38 (by decide) ?_ ?_
      · refine Sim.sub (L' := []) [] rfl ?_
        exact Sim.ret (he _ _)
      · refine s_aload_n O 0 rfl rfl dX6_init_41 ?_
        refine x_get O (ci := 6) (T := TX6) (N := 3) in_X6 rfl 0 (by decide) q1085 (fun _ h => h) dX6_init_42 (fun v0 => ?_)
        refine s_vR (fun r7 => ?_)
        refine s_iload O 2 rfl dX6_init_45 ?_
        refine s_lload O 1 rfl dX6_init_47 ?_
        refine s_iload O 2 rfl dX6_init_49 ?_
        refine x_callS O (enc2 := eL) (av := [.long a29.1, .int a29.2]) (rest := [.int a29.2, va_rf r7]) 2 (fun v0 t0 h0 => mt_X6_greatest (xL X) (xG X) hfl hg a29.1 a29.2 _ t0 v0 h0) (lw_S q1071 q1072 q156 q1073) hd_X6_greatest ⟨Nat.le_of_ble_eq_true rfl, Nat.le_of_ble_eq_true rfl⟩ rfl (by generalize r7 = zq0; cases zq0 <;> exact Nat.le_of_ble_eq_true rfl) dX6_init_51 (fun v8 s9 => ?_)
        refine s_dr (fun p10 hp11 => ?_)
        subst hp11
        refine x_last O dX6_init_54 (fun s12 => ?_)
        refine s_lload O 1 rfl dX6_init_55 ?_
        refine s_aload_n O 0 rfl rfl dX6_init_57 ?_
        refine x_get O (ci := 6) (T := TX6) (N := 3) in_X6 rfl 0 (by decide) q1085 (fun _ h => h) dX6_init_58 (fun v0 => ?_)
        refine s_vR (fun r13 => ?_)
        refine s_iload O 2 rfl dX6_init_61 ?_
        refine s_dr (fun p14 hp15 => ?_)
        subst hp15
        refine x_lald O dX6_init_63 (fun w16 => ?_)
        refine s_iload O 2 rfl dX6_init_64 ?_
        refine s_i2l O dX6_init_66 ?_
        refine x_callSN O (enc2 := eL) (av := [.long w16, .long a29.2.toInt64]) (rest := [.long a29.1]) 2 (fun v0 t0 h0 => mt_X0_waysHeld (xL X) (xG X) hfl hg w16 a29.2.toInt64 _ t0 v0 h0) q1077 (zm_q1075 hzz) q131 q1076 hd_X0_waysHeld ⟨Nat.le_of_ble_eq_true rfl, Nat.le_of_ble_eq_true rfl⟩ rfl (Nat.le_of_ble_eq_true rfl) dX6_init_67 (fun v17 s18 => ?_)
        refine s_lsub O dX6_init_70 ?_
        refine s_nml fun w19 => ?_
        refine s_lstore O (L' := [(4, .long w19), (0, .ref o), (6, .int a29.2)]) hm (by decide) rfl dX6_init_71 ?_
        refine s_aload_n O 1 rfl rfl dX6_init_73 ?_
        refine s_iload O 2 rfl dX6_init_74 ?_
        refine x_put O (ci := 6) (T := TX6) (N := 3) (ty := .int) in_X6 tyX6 tyX6_ok nmX6 rfl 2 (by decide) q1087 (fun _ h => h) rfl (by decide +kernel) rfl rfl dX6_init_76 (fun s20 => ?_)
        refine s_iinc O (y := (a29.2 + (-1))) (L' := [(6, .int (a29.2 + (-1))), (4, .long w19), (0, .ref o)]) 2 rfl hm (by decide) (congrArg (HAdd.hAdd a29.2) (by decide)) rfl dX6_init_79 ?_
        refine s_goto O (tgt := 29) dX6_init_82 (by decide) ?_
        refine Sim.sub (L' := [(0, .ref o), (4, .long w19), (6, .int (a29.2 + (-1)))]) [2, 1, 0] rfl ?_
        exact Sim.ret (hn _ _)
  · intro b29 s21
    show Sim X (xI) (retC X eU xI) 85 [] [] s21 _
    exact s_return O hr rfl dX6_init_85
theorem mt_X6_init (l : Launch) (G : XG) (hfl : l.stackTraces = false) (hg : G.2.2.2.2 = zAll G.1.1 G.1.2.2.2 G.2.2.2.1) (o : Nat) (x1 : Int64) (x3 : Int32) (s t : XS) (v : Unit) (h : x6_init o x1 x3 s = some (v, t)) : xMet l yX6_init (ws_ yX6_init cX6_init 7 none) 203 4684 G (xI s) [.ref o, .long x1, .int x3] (eU v) (xI t) :=
  xMet_ofN rfl (E := xI) (enc := eU) (by decide +kernel) (Nat.le_of_ble_eq_true rfl) (fun X hl hG O hr hm hinit => by subst hl; subst hG; exact wk_X6_init O hfl hg hr hm hinit o x1 x3 s) h
theorem hd_J8_abs : yJ8_abs.cls ≠ "java/lang/invoke/MethodHandle" ∧ yJ8_abs.cls ≠ "java/lang/invoke/VarHandle" ∧ (parseMethodDescriptor yJ8_abs.desc).map (fun d => d.parameters.length) = some 1 := by decide +kernel
set_option maxHeartbeats 4000000 in
set_option maxRecDepth 100000 in
theorem wk_J8_abs {X : XC} {w0 : XS} (O : XOk X cJ8_abs RJ8 0 0) (hr : (xMeth X).sig.returnType = some .long) (hm : (xC X).maxLocals = 2) (x0 : Int64) (s : Unit) : Sim X (fun _ : Unit => w0) (retC X eL (fun _ : Unit => w0)) 0 [(0, .long x0)] [] s (j8_abs x0 s) := by
  unfold j8_abs
  refine s_lload_n O 0 rfl rfl dJ8_abs_0 ?_
  refine s_lconst O (x := 0) (by decide) dJ8_abs_1 ?_
  refine s_lcmp_ge O (tgt := 11) dJ8_abs_2 dJ8_abs_3 (by decide) ?_ ?_
  · refine s_lload_n O 0 rfl rfl dJ8_abs_11 ?_
    exact s_lreturn O hr rfl dJ8_abs_12
  · refine s_lload_n O 0 rfl rfl dJ8_abs_6 ?_
    refine s_lneg O dJ8_abs_7 ?_
    refine s_goto O (tgt := 12) dJ8_abs_8 (by decide) ?_
    exact s_lreturn O hr rfl dJ8_abs_12
theorem mt_J8_abs (l : Launch) (G : XG) (w0 : XS) (x0 : Int64) (v : Int64) (h : j8_abs x0 () = some (v, ())) : xMet l yJ8_abs (ws_ yJ8_abs cJ8_abs 2 (some .long)) 0 0 G w0 [.long x0] (eL v) w0 :=
  xMet_of (E := fun _ : Unit => w0) (enc := eL) (t := ()) (by decide +kernel) (Nat.le_of_ble_eq_true rfl) (fun X hl hG O hr hm => wk_J8_abs O hr hm x0 ()) h
theorem hd_J8_multiplyExact : yJ8_multiplyExact.cls ≠ "java/lang/invoke/MethodHandle" ∧ yJ8_multiplyExact.cls ≠ "java/lang/invoke/VarHandle" ∧ (parseMethodDescriptor yJ8_multiplyExact.desc).map (fun d => d.parameters.length) = some 2 := by decide +kernel
theorem hv_J8_multiplyExact : yJ8_multiplyExact.cls = RJ8 ∧ yJ8_multiplyExact.cls ≠ "java/lang/invoke/MethodHandle" ∧ yJ8_multiplyExact.cls ≠ "java/lang/invoke/VarHandle" ∧ (parseMethodDescriptor yJ8_multiplyExact.desc).map (fun d => d.parameters.length) = some 2 := ⟨rfl, hd_J8_multiplyExact⟩
theorem hu_J8_multiplyExact : yJ8_multiplyExact.name ≠ "<init>" ∧ (parseMethodDescriptor yJ8_multiplyExact.desc).map (fun d => d.parameters.length) = some 2 := ⟨by decide +kernel, hd_J8_multiplyExact.2.2⟩
set_option maxHeartbeats 4000000 in
set_option maxRecDepth 100000 in
theorem wk_J8_multiplyExact {X : XC} (O : XOk X cJ8_multiplyExact RJ8 6 100) (hfl : (xL X).stackTraces = false) (hg : (xG X).2.2.2.2 = zAll (xG X).1.1 (xG X).1.2.2.2 (xG X).2.2.2.1) (hr : (xMeth X).sig.returnType = (some .long)) (hm : (xC X).maxLocals = 10) (hout : ∀ x ∈ (xC X).exceptionTable.toList, False) (x0 : Int64) (x2 : Int64) (s : XS) : Sim X xI (retCT X eL 11 xI) 0 [(0, .long x0), (2, .long x2)] [] s (j8_multiplyExact x0 x2 s) := by
  have hzz := O.hst
  rw [hg] at hzz
  unfold j8_multiplyExact
  have hj45 : ∀ (x4_45 : Int64) (s6 : XS), Sim X (xI) (retCT X eL 11 xI) 45 [(0, .long x0), (2, .long x2), (4, .long x4_45)] [] s6 (j8_multiplyExact_j45 x0 x2 x4_45 s6) := by
    intro x4_45 s6
    unfold j8_multiplyExact_j45
    refine s_lload_n O 0 rfl rfl dJ8_multiplyExact_45 ?_
    refine s_ldc2 O (x := (-9223372036854775808)) q1108 dJ8_multiplyExact_46 ?_
    refine s_lcmp_ne O (tgt := 71) dJ8_multiplyExact_49 dJ8_multiplyExact_50 (by decide) ?_ ?_
    · refine s_lload O 2 rfl dJ8_multiplyExact_71 ?_
      exact s_lreturnT O hr rfl dJ8_multiplyExact_73
    · refine s_lload_n O 1 rfl rfl dJ8_multiplyExact_53 ?_
      refine s_ldc2 O (x := (-1)) q1109 dJ8_multiplyExact_54 ?_
      refine s_lcmp_ne O (tgt := 71) dJ8_multiplyExact_57 dJ8_multiplyExact_58 (by decide) ?_ ?_
      · refine s_lload O 2 rfl dJ8_multiplyExact_71 ?_
        exact s_lreturnT O hr rfl dJ8_multiplyExact_73
      · exact x_throwS O hfl hout hzz ⟨Nat.le_of_ble_eq_true rfl, Nat.le_of_ble_eq_true rfl⟩ (Nat.le_of_ble_eq_true rfl) dJ8_multiplyExact_61 dJ8_multiplyExact_64 dJ8_multiplyExact_65 dJ8_multiplyExact_67 dJ8_multiplyExact_70
  refine s_lload_n O 0 rfl rfl dJ8_multiplyExact_0 ?_
  refine s_lload_n O 1 rfl rfl dJ8_multiplyExact_1 ?_
  refine s_lmul O dJ8_multiplyExact_2 ?_
  refine s_nml fun w1 => ?_
  refine s_lstore O (L' := [(4, .long w1), (0, .long x0), (2, .long x2)]) hm (by decide) rfl dJ8_multiplyExact_3 ?_
  refine s_lload_n O 1 rfl rfl dJ8_multiplyExact_5 ?_
  refine s_callP O (enc2 := eL) (av := [.long x0]) (rest := []) 1 (fun v0 h0 => mt_J8_abs (xL X) (xG X) _ x0 v0 h0) (lw_S q1105 q1106 q143 q1107) hd_J8_abs ⟨Nat.le_of_ble_eq_true rfl, Nat.le_of_ble_eq_true rfl⟩ rfl (Nat.le_of_ble_eq_true rfl) dJ8_multiplyExact_6 (fun v2 => ?_)
  refine s_lstore O (L' := [(6, .long v2), (4, .long w1), (0, .long x0), (2, .long x2)]) hm (by decide) rfl dJ8_multiplyExact_9 ?_
  refine s_lload_n O 3 rfl rfl dJ8_multiplyExact_11 ?_
  refine s_callP O (enc2 := eL) (av := [.long x2]) (rest := []) 1 (fun v0 h0 => mt_J8_abs (xL X) (xG X) _ x2 v0 h0) (lw_S q1105 q1106 q143 q1107) hd_J8_abs ⟨Nat.le_of_ble_eq_true rfl, Nat.le_of_ble_eq_true rfl⟩ rfl (Nat.le_of_ble_eq_true rfl) dJ8_multiplyExact_12 (fun v4 => ?_)
  refine s_lstore O (L' := [(8, .long v4), (6, .long v2), (4, .long w1), (0, .long x0), (2, .long x2)]) hm (by decide) rfl dJ8_multiplyExact_15 ?_
  refine s_lload O 1 rfl dJ8_multiplyExact_17 ?_
  refine s_lload O 0 rfl dJ8_multiplyExact_19 ?_
  refine s_lor O dJ8_multiplyExact_21 ?_
  refine s_bipush O (x := 31) (by decide) dJ8_multiplyExact_22 ?_
  refine s_lushr O dJ8_multiplyExact_24 ?_
  refine s_lconst O (x := 0) (by decide) dJ8_multiplyExact_25 ?_
  refine s_lcmp_eq O (tgt := 71) dJ8_multiplyExact_26 dJ8_multiplyExact_27 (by decide) ?_ ?_
  · refine s_lload O 2 rfl dJ8_multiplyExact_71 ?_
    exact s_lreturnT O hr rfl dJ8_multiplyExact_73
  · refine s_lload_n O 4 rfl rfl dJ8_multiplyExact_30 ?_
    refine s_lconst O (x := 0) (by decide) dJ8_multiplyExact_31 ?_
    refine s_lcmp_eq O (tgt := 45) dJ8_multiplyExact_32 dJ8_multiplyExact_33 (by decide) ?_ ?_
    · refine Sim.sub (L' := [(0, .long x0), (2, .long x2), (4, .long w1)]) [3, 4, 2] rfl ?_
      exact hj45 w1 _
    · refine s_lload O 2 rfl dJ8_multiplyExact_36 ?_
      refine s_lload_n O 4 rfl rfl dJ8_multiplyExact_38 ?_
      refine s_ldiv O dJ8_multiplyExact_39 ?_
      refine s_lload_n O 3 rfl rfl dJ8_multiplyExact_40 ?_
      refine s_lcmp_ne O (tgt := 61) dJ8_multiplyExact_41 dJ8_multiplyExact_42 (by decide) ?_ ?_
      · exact x_throwS O hfl hout hzz ⟨Nat.le_of_ble_eq_true rfl, Nat.le_of_ble_eq_true rfl⟩ (Nat.le_of_ble_eq_true rfl) dJ8_multiplyExact_61 dJ8_multiplyExact_64 dJ8_multiplyExact_65 dJ8_multiplyExact_67 dJ8_multiplyExact_70
      · refine Sim.sub (L' := [(0, .long x0), (2, .long x2), (4, .long w1)]) [3, 4, 2] rfl ?_
        exact hj45 w1 _
theorem mt_J8_multiplyExact (l : Launch) (G : XG) (hfl : l.stackTraces = false) (hg : G.2.2.2.2 = zAll G.1.1 G.1.2.2.2 G.2.2.2.1) (x0 : Int64) (x2 : Int64) (s t : XS) (v : (Int64) ⊕ Nat) (h : j8_multiplyExact x0 x2 s = some (v, t)) : xMetT l yJ8_multiplyExact (ws_ yJ8_multiplyExact cJ8_multiplyExact 10 (some .long)) 6 100 G (xI s) [.long x0, .long x2] eL 11 v (xI t) :=
  xMetT_of (E := xI) (enc := eL) (by decide +kernel) (Nat.le_of_ble_eq_true rfl) (fun X hl hG O hr hm hout => by subst hl; subst hG; exact wk_J8_multiplyExact O hfl hg hr hm hout x0 x2 s) h
theorem hd_X0_ways : yX0_ways.cls ≠ "java/lang/invoke/MethodHandle" ∧ yX0_ways.cls ≠ "java/lang/invoke/VarHandle" ∧ (parseMethodDescriptor yX0_ways.desc).map (fun d => d.parameters.length) = some 2 := by decide +kernel
theorem hv_X0_ways : yX0_ways.cls = RX0 ∧ yX0_ways.cls ≠ "java/lang/invoke/MethodHandle" ∧ yX0_ways.cls ≠ "java/lang/invoke/VarHandle" ∧ (parseMethodDescriptor yX0_ways.desc).map (fun d => d.parameters.length) = some 2 := ⟨rfl, hd_X0_ways⟩
theorem hu_X0_ways : yX0_ways.name ≠ "<init>" ∧ (parseMethodDescriptor yX0_ways.desc).map (fun d => d.parameters.length) = some 2 := ⟨by decide +kernel, hd_X0_ways.2.2⟩
set_option maxHeartbeats 4000000 in
set_option maxRecDepth 100000 in
theorem wk_X0_ways {X : XC} (O : XOk X cX0_ways RX0 201 4623) (hfl : (xL X).stackTraces = false) (hg : (xG X).2.2.2.2 = zAll (xG X).1.1 (xG X).1.2.2.2 (xG X).2.2.2.1) (hr : (xMeth X).sig.returnType = (some .long)) (hm : (xC X).maxLocals = 14) (hout : ∀ x ∈ (xC X).exceptionTable.toList, False) (x0 : Int64) (x2 : Int64) (s : XS) : Sim X xI (retCT X eL 11 xI) 0 [(0, .long x0), (2, .long x2)] [] s (x0_ways x0 x2 s) := by
  have hzz := O.hst
  rw [hg] at hzz
  unfold x0_ways
  refine s_lload_n O 1 rfl rfl dX0_ways_0 ?_
  refine s_lconst O (x := 0) (by decide) dX0_ways_1 ?_
  refine s_lcmp_lt O (tgt := 12) dX0_ways_2 dX0_ways_3 (by decide) ?_ ?_
  · refine s_lconst O (x := 0) (by decide) dX0_ways_12 ?_
    exact s_lreturnT O hr rfl dX0_ways_13
  · refine s_lload_n O 1 rfl rfl dX0_ways_6 ?_
    refine s_lload_n O 0 rfl rfl dX0_ways_7 ?_
    refine s_lcmp_le O (tgt := 14) dX0_ways_8 dX0_ways_9 (by decide) ?_ ?_
    · refine s_lload_n O 1 rfl rfl dX0_ways_14 ?_
      refine s_lload_n O 0 rfl rfl dX0_ways_15 ?_
      refine s_lload_n O 1 rfl rfl dX0_ways_16 ?_
      refine s_lsub O dX0_ways_17 ?_
      refine s_callP O (enc2 := eL) (av := [.long x2, .long (x0 - x2)]) (rest := []) 2 (fun v0 h0 => mt_J8_min_2 (xL X) (xG X) _ x2 (x0 - x2) v0 h0) (lw_S q1078 q1079 q143 q1080) hd_J8_min_2 ⟨Nat.le_of_ble_eq_true rfl, Nat.le_of_ble_eq_true rfl⟩ rfl (Nat.le_of_ble_eq_true rfl) dX0_ways_18 (fun v1 => ?_)
      refine s_lstore O (L' := [(4, .long v1), (0, .long x0), (2, .long x2)]) hm (by decide) rfl dX0_ways_21 ?_
      refine s_lconst O (x := 1) (by decide) dX0_ways_23 ?_
      refine s_lstore O (L' := [(6, .long 1), (4, .long v1), (0, .long x0), (2, .long x2)]) hm (by decide) rfl dX0_ways_24 ?_
      refine s_lconst O (x := 1) (by decide) dX0_ways_26 ?_
      refine s_lstore O (L' := [(8, .long 1), (6, .long 1), (4, .long v1), (0, .long x0), (2, .long x2)]) hm (by decide) rfl dX0_ways_27 ?_
      refine Sim.sub (L' := [(0, .long x0), (4, .long v1), (6, .long 1), (8, .long 1)]) [3, 2, 1, 0] rfl ?_
      refine s_while (A := Int64 × Int64) (B := (Int64) ⊕ (Nat)) (La := fun a29 => [(0, .long x0), (4, .long v1), (6, .long a29.1), (8, .long a29.2)]) (We := fun bb0 s12 => match bb0 with | .inl b29 => xWX X 82 [(6, .long b29)] [] ((xI) s12) | .inr b29 => ∀ (pc9 : Nat) (L9 : List (Nat × Value)) (rest9 : List Value), xVX X pc9 L9 rest9 ((xI) s12) b29 11) rfl rfl ?_ ?_
      · intro Cl hn he a29 s3
        unfold x0_ways_s29
        refine s_lload O 3 rfl dX0_ways_29 ?_
        refine s_lload O 1 rfl dX0_ways_31 ?_
        refine s_lcmp_gt O (tgt := 82) dX0_ways_33 dX0_ways_34 (by decide) ?_ ?_
        · refine Sim.sub (L' := [(6, .long a29.1)]) [2] rfl ?_
          exact Sim.ret (he _ _)
        · refine s_lload O 2 rfl dX0_ways_37 ?_
          refine s_lload O 3 rfl dX0_ways_39 ?_
          refine x_callS O (enc2 := eL) (av := [.long a29.1, .long a29.2]) (rest := []) 2 (fun v0 t0 h0 => mt_X0_gcd (xL X) (xG X) hfl hg 200 a29.1 a29.2 _ t0 v0 h0) (lw_S q1081 q1082 q131 q1083) hd_X0_gcd ⟨Nat.le_of_ble_eq_true rfl, Nat.le_of_ble_eq_true rfl⟩ rfl (Nat.le_of_ble_eq_true rfl) dX0_ways_41 (fun v4 s5 => ?_)
          refine s_lstore O (L' := [(10, .long v4), (0, .long x0), (4, .long v1), (6, .long a29.1), (8, .long a29.2)]) hm (by decide) rfl dX0_ways_44 ?_
          refine s_lload_n O 1 rfl rfl dX0_ways_46 ?_
          refine s_lload O 2 rfl dX0_ways_47 ?_
          refine s_lsub O dX0_ways_49 ?_
          refine s_lload O 4 rfl dX0_ways_50 ?_
          refine s_ladd O dX0_ways_52 ?_
          refine s_nml fun w6 => ?_
          refine s_lstore O (L' := [(12, .long w6), (10, .long v4), (0, .long x0), (4, .long v1), (6, .long a29.1), (8, .long a29.2)]) hm (by decide) rfl dX0_ways_53 ?_
          refine s_lload O 4 rfl dX0_ways_55 ?_
          refine s_lload O 1 rfl dX0_ways_57 ?_
          refine s_ldiv O dX0_ways_59 ?_
          refine s_lload O 0 rfl dX0_ways_60 ?_
          refine s_lload O 5 rfl dX0_ways_62 ?_
          refine s_lload O 1 rfl dX0_ways_64 ?_
          refine s_ldiv O dX0_ways_66 ?_
          refine s_ldiv O dX0_ways_67 ?_
          refine x_callST O (enc2 := eL) (cj := 11) (av := [.long (a29.1 / v4), .long (w6 / (a29.2 / v4))]) (rest := []) 2 (fun v0 t0 h0 => mt_J8_multiplyExact (xL X) (xG X) hfl hg (a29.1 / v4) (w6 / (a29.2 / v4)) _ t0 v0 h0) (lw_S q1102 q1103 q143 q1104) hd_J8_multiplyExact ⟨Nat.le_of_ble_eq_true rfl, Nat.le_of_ble_eq_true rfl⟩ rfl (Nat.le_of_ble_eq_true rfl) dX0_ways_68 (fun v7 s8 => ?_) (fun p10 s11 => ?_)
          · refine s_lstore O (L' := [(6, .long v7), (12, .long w6), (10, .long v4), (0, .long x0), (4, .long v1), (8, .long a29.2)]) hm (by decide) rfl dX0_ways_71 ?_
            refine s_lload O 5 rfl dX0_ways_73 ?_
            refine s_lconst O (x := 1) (by decide) dX0_ways_75 ?_
            refine s_ladd O dX0_ways_76 ?_
            refine s_nml fun w9 => ?_
            refine s_lstore O (L' := [(8, .long w9), (6, .long v7), (12, .long w6), (10, .long v4), (0, .long x0), (4, .long v1)]) hm (by decide) rfl dX0_ways_77 ?_
            refine s_goto O (tgt := 29) dX0_ways_79 (by decide) ?_
            refine Sim.sub (L' := [(0, .long x0), (4, .long v1), (6, .long v7), (8, .long w9)]) [4, 5, 1, 0] rfl ?_
            exact Sim.ret (hn _ _)
          · exact SimX.ret (fun hc0 => he _ _ hc0 _ _ _)
      · intro bb0 s12
        rcases bb0 with b29 | b29
        · show Sim X (xI) (retCT X eL 11 xI) 82 [(6, .long b29)] [] s12 _
          dsimp only
          refine s_lload O 0 rfl dX0_ways_82 ?_
          exact s_lreturnT O hr rfl dX0_ways_84
        · dsimp only
          intro v9 t9 hr9 hc9 pc9 L9 rest9
          exact sx_out O hout v9 t9 hr9 hc9
    · refine s_lconst O (x := 0) (by decide) dX0_ways_12 ?_
      exact s_lreturnT O hr rfl dX0_ways_13
theorem mt_X0_ways (l : Launch) (G : XG) (hfl : l.stackTraces = false) (hg : G.2.2.2.2 = zAll G.1.1 G.1.2.2.2 G.2.2.2.1) (x0 : Int64) (x2 : Int64) (s t : XS) (v : (Int64) ⊕ Nat) (h : x0_ways x0 x2 s = some (v, t)) : xMetT l yX0_ways (ws_ yX0_ways cX0_ways 14 (some .long)) 201 4623 G (xI s) [.long x0, .long x2] eL 11 v (xI t) :=
  xMetT_of (E := xI) (enc := eL) (by decide +kernel) (Nat.le_of_ble_eq_true rfl) (fun X hl hG O hr hm hout => by subst hl; subst hG; exact wk_X0_ways O hfl hg hr hm hout x0 x2 s) h
theorem hd_J8_addExact : yJ8_addExact.cls ≠ "java/lang/invoke/MethodHandle" ∧ yJ8_addExact.cls ≠ "java/lang/invoke/VarHandle" ∧ (parseMethodDescriptor yJ8_addExact.desc).map (fun d => d.parameters.length) = some 2 := by decide +kernel
theorem hv_J8_addExact : yJ8_addExact.cls = RJ8 ∧ yJ8_addExact.cls ≠ "java/lang/invoke/MethodHandle" ∧ yJ8_addExact.cls ≠ "java/lang/invoke/VarHandle" ∧ (parseMethodDescriptor yJ8_addExact.desc).map (fun d => d.parameters.length) = some 2 := ⟨rfl, hd_J8_addExact⟩
theorem hu_J8_addExact : yJ8_addExact.name ≠ "<init>" ∧ (parseMethodDescriptor yJ8_addExact.desc).map (fun d => d.parameters.length) = some 2 := ⟨by decide +kernel, hd_J8_addExact.2.2⟩
set_option maxHeartbeats 4000000 in
set_option maxRecDepth 100000 in
theorem wk_J8_addExact {X : XC} (O : XOk X cJ8_addExact RJ8 6 100) (hfl : (xL X).stackTraces = false) (hg : (xG X).2.2.2.2 = zAll (xG X).1.1 (xG X).1.2.2.2 (xG X).2.2.2.1) (hr : (xMeth X).sig.returnType = (some .long)) (hm : (xC X).maxLocals = 6) (hout : ∀ x ∈ (xC X).exceptionTable.toList, False) (x0 : Int64) (x2 : Int64) (s : XS) : Sim X xI (retCT X eL 11 xI) 0 [(0, .long x0), (2, .long x2)] [] s (j8_addExact x0 x2 s) := by
  have hzz := O.hst
  rw [hg] at hzz
  unfold j8_addExact
  refine s_lload_n O 0 rfl rfl dJ8_addExact_0 ?_
  refine s_lload_n O 1 rfl rfl dJ8_addExact_1 ?_
  refine s_ladd O dJ8_addExact_2 ?_
  refine s_nml fun w1 => ?_
  refine s_lstore O (L' := [(4, .long w1), (0, .long x0), (2, .long x2)]) hm (by decide) rfl dJ8_addExact_3 ?_
  refine s_lload_n O 1 rfl rfl dJ8_addExact_5 ?_
  refine s_lload O 0 rfl dJ8_addExact_6 ?_
  refine s_lxor O dJ8_addExact_8 ?_
  refine s_lload_n O 2 rfl rfl dJ8_addExact_9 ?_
  refine s_lload O 0 rfl dJ8_addExact_10 ?_
  refine s_lxor O dJ8_addExact_12 ?_
  refine s_land O dJ8_addExact_13 ?_
  refine s_lconst O (x := 0) (by decide) dJ8_addExact_14 ?_
  refine s_lcmp_ge O (tgt := 29) dJ8_addExact_15 dJ8_addExact_16 (by decide) ?_ ?_
  · refine s_lload O 0 rfl dJ8_addExact_29 ?_
    exact s_lreturnT O hr rfl dJ8_addExact_31
  · exact x_throwS O hfl hout hzz ⟨Nat.le_of_ble_eq_true rfl, Nat.le_of_ble_eq_true rfl⟩ (Nat.le_of_ble_eq_true rfl) dJ8_addExact_19 dJ8_addExact_22 dJ8_addExact_23 dJ8_addExact_25 dJ8_addExact_28
theorem mt_J8_addExact (l : Launch) (G : XG) (hfl : l.stackTraces = false) (hg : G.2.2.2.2 = zAll G.1.1 G.1.2.2.2 G.2.2.2.1) (x0 : Int64) (x2 : Int64) (s t : XS) (v : (Int64) ⊕ Nat) (h : j8_addExact x0 x2 s = some (v, t)) : xMetT l yJ8_addExact (ws_ yJ8_addExact cJ8_addExact 6 (some .long)) 6 100 G (xI s) [.long x0, .long x2] eL 11 v (xI t) :=
  xMetT_of (E := xI) (enc := eL) (by decide +kernel) (Nat.le_of_ble_eq_true rfl) (fun X hl hG O hr hm hout => by subst hl; subst hG; exact wk_J8_addExact O hfl hg hr hm hout x0 x2 s) h
theorem hd_X6_moved : yX6_moved.cls ≠ "java/lang/invoke/MethodHandle" ∧ yX6_moved.cls ≠ "java/lang/invoke/VarHandle" ∧ (parseMethodDescriptor yX6_moved.desc).map (fun d => d.parameters.length) = some 2 := by decide +kernel
theorem hv_X6_moved : yX6_moved.cls = RX6 ∧ yX6_moved.cls ≠ "java/lang/invoke/MethodHandle" ∧ yX6_moved.cls ≠ "java/lang/invoke/VarHandle" ∧ (parseMethodDescriptor yX6_moved.desc).map (fun d => d.parameters.length) = some 2 := ⟨rfl, hd_X6_moved⟩
theorem hu_X6_moved : yX6_moved.name ≠ "<init>" ∧ (parseMethodDescriptor yX6_moved.desc).map (fun d => d.parameters.length) = some 2 := ⟨by decide +kernel, hd_X6_moved.2.2⟩
set_option maxHeartbeats 4000000 in
set_option maxRecDepth 100000 in
theorem wk_X6_moved {X : XC} (O : XOk X cX6_moved RX6 202 4656) (hfl : (xL X).stackTraces = false) (hg : (xG X).2.2.2.2 = zAll (xG X).1.1 (xG X).1.2.2.2 (xG X).2.2.2.1) (hr : (xMeth X).sig.returnType = (some .long)) (hm : (xC X).maxLocals = 6) (hout : ∀ x ∈ (xC X).exceptionTable.toList, False) (o : Nat) (x1 : Int32) (x2 : Int32) (s : XS) : Sim X xI (retCT X eL 11 xI) 0 [(0, .ref o), (1, .int x1), (2, .int x2)] [] s (x6_moved o x1 x2 s) := by
  have hzz := O.hst
  rw [hg] at hzz
  unfold x6_moved
  refine s_lconst O (x := 0) (by decide) dX6_moved_0 ?_
  refine s_lstore_n O (L' := [(3, .long 0), (0, .ref o), (1, .int x1), (2, .int x2)]) hm (by decide) rfl rfl dX6_moved_1 ?_
  refine s_aload_n O 1 rfl rfl dX6_moved_2 ?_
  refine x_get O (ci := 6) (T := TX6) (N := 3) in_X6 rfl 1 (by decide) q1086 (fun _ h => h) dX6_moved_3 (fun v0 => ?_)
  refine s_vI (fun u1 => ?_)
  refine s_istore O (L' := [(5, .int u1), (3, .long 0), (0, .ref o), (1, .int x1), (2, .int x2)]) hm (by decide) rfl dX6_moved_6 ?_
  refine Sim.sub (L' := [(0, .ref o), (1, .int x1), (2, .int x2), (3, .long 0), (5, .int u1)]) [2, 3, 4, 1, 0] rfl ?_
  refine s_while (A := Int64 × Int32) (B := (Int64) ⊕ (Nat)) (La := fun a8 => [(0, .ref o), (1, .int x1), (2, .int x2), (3, .long a8.1), (5, .int a8.2)]) (We := fun bb0 s16 => match bb0 with | .inl b8 => xWX X 46 [(3, .long b8)] [] ((xI) s16) | .inr b8 => ∀ (pc9 : Nat) (L9 : List (Nat × Value)) (rest9 : List Value), xVX X pc9 L9 rest9 ((xI) s16) b8 11) rfl rfl ?_ ?_
  · intro Cl hn he a8 s2
    unfold x6_moved_s8
    refine s_iload O 4 rfl dX6_moved_8 ?_
    refine s_aload_n O 0 rfl rfl dX6_moved_10 ?_
    refine x_get O (ci := 6) (T := TX6) (N := 3) in_X6 rfl 2 (by decide) q1087 (fun _ h => h) dX6_moved_11 (fun v0 => ?_)
    refine s_vI (fun u3 => ?_)
    refine s_icmp_lt O (tgt := 46) dX6_moved_14 (by decide) ?_ ?_
    · refine Sim.sub (L' := [(3, .long a8.1)]) [3] rfl ?_
      exact Sim.ret (he _ _)
    · refine s_lload_n O 3 rfl rfl dX6_moved_17 ?_
      refine s_aload_n O 0 rfl rfl dX6_moved_18 ?_
      refine x_get O (ci := 6) (T := TX6) (N := 3) in_X6 rfl 0 (by decide) q1085 (fun _ h => h) dX6_moved_19 (fun v0 => ?_)
      refine s_vR (fun r4 => ?_)
      refine s_iload O 4 rfl dX6_moved_22 ?_
      refine s_dr (fun p5 hp6 => ?_)
      subst hp6
      refine x_lald O dX6_moved_24 (fun w7 => ?_)
      refine s_iload_n O 1 rfl rfl dX6_moved_25 ?_
      refine s_i2l O dX6_moved_26 ?_
      refine s_ladd O dX6_moved_27 ?_
      refine s_iload O 4 rfl dX6_moved_28 ?_
      refine s_iload_n O 2 rfl rfl dX6_moved_30 ?_
      refine s_iadd O dX6_moved_31 ?_
      refine s_i2l O dX6_moved_32 ?_
      refine x_callSNT O (enc2 := eL) (cj := 11) (av := [.long (w7 + x1.toInt64), .long ((a8.2 + x2).toInt64)]) (rest := [.long a8.1]) 2 (fun v0 t0 h0 => mt_X0_ways (xL X) (xG X) hfl hg (w7 + x1.toInt64) ((a8.2 + x2).toInt64) _ t0 v0 h0) q1101 (zm_q1099 hzz) q131 q1100 hd_X0_ways ⟨Nat.le_of_ble_eq_true rfl, Nat.le_of_ble_eq_true rfl⟩ rfl (Nat.le_of_ble_eq_true rfl) dX6_moved_33 (fun v8 s9 => ?_) (fun p14 s15 => ?_)
      · refine x_callST O (enc2 := eL) (cj := 11) (av := [.long a8.1, .long v8]) (rest := []) 2 (fun v0 t0 h0 => mt_J8_addExact (xL X) (xG X) hfl hg a8.1 v8 _ t0 v0 h0) (lw_S q1113 q1114 q143 q1115) hd_J8_addExact ⟨Nat.le_of_ble_eq_true rfl, Nat.le_of_ble_eq_true rfl⟩ rfl (Nat.le_of_ble_eq_true rfl) dX6_moved_36 (fun v10 s11 => ?_) (fun p12 s13 => ?_)
        · refine s_lstore_n O (L' := [(3, .long v10), (0, .ref o), (1, .int x1), (2, .int x2), (5, .int a8.2)]) hm (by decide) rfl rfl dX6_moved_39 ?_
          refine s_iinc O (y := (a8.2 + (-1))) (L' := [(5, .int (a8.2 + (-1))), (3, .long v10), (0, .ref o), (1, .int x1), (2, .int x2)]) 4 rfl hm (by decide) (congrArg (HAdd.hAdd a8.2) (by decide)) rfl dX6_moved_40 ?_
          refine s_goto O (tgt := 8) dX6_moved_43 (by decide) ?_
          refine Sim.sub (L' := [(0, .ref o), (1, .int x1), (2, .int x2), (3, .long v10), (5, .int (a8.2 + (-1)))]) [2, 3, 4, 1, 0] rfl ?_
          exact Sim.ret (hn _ _)
        · exact SimX.ret (fun hc0 => he _ _ hc0 _ _ _)
      · exact SimX.ret (fun hc0 => he _ _ hc0 _ _ _)
  · intro bb0 s16
    rcases bb0 with b8 | b8
    · show Sim X (xI) (retCT X eL 11 xI) 46 [(3, .long b8)] [] s16 _
      dsimp only
      refine s_lload_n O 0 rfl rfl dX6_moved_46 ?_
      exact s_lreturnT O hr rfl dX6_moved_47
    · dsimp only
      intro v9 t9 hr9 hc9 pc9 L9 rest9
      exact sx_out O hout v9 t9 hr9 hc9
theorem mt_X6_moved (l : Launch) (G : XG) (hfl : l.stackTraces = false) (hg : G.2.2.2.2 = zAll G.1.1 G.1.2.2.2 G.2.2.2.1) (o : Nat) (x1 : Int32) (x2 : Int32) (s t : XS) (v : (Int64) ⊕ Nat) (h : x6_moved o x1 x2 s = some (v, t)) : xMetT l yX6_moved (ws_ yX6_moved cX6_moved 6 (some .long)) 202 4656 G (xI s) [.ref o, .int x1, .int x2] eL 11 v (xI t) :=
  xMetT_of (E := xI) (enc := eL) (by decide +kernel) (Nat.le_of_ble_eq_true rfl) (fun X hl hG O hr hm hout => by subst hl; subst hG; exact wk_X6_moved O hfl hg hr hm hout o x1 x2 s) h
theorem hd_X0_upOf : yX0_upOf.cls ≠ "java/lang/invoke/MethodHandle" ∧ yX0_upOf.cls ≠ "java/lang/invoke/VarHandle" ∧ (parseMethodDescriptor yX0_upOf.desc).map (fun d => d.parameters.length) = some 2 := by decide +kernel
theorem hv_X0_upOf : yX0_upOf.cls = RX0 ∧ yX0_upOf.cls ≠ "java/lang/invoke/MethodHandle" ∧ yX0_upOf.cls ≠ "java/lang/invoke/VarHandle" ∧ (parseMethodDescriptor yX0_upOf.desc).map (fun d => d.parameters.length) = some 2 := ⟨rfl, hd_X0_upOf⟩
theorem hu_X0_upOf : yX0_upOf.name ≠ "<init>" ∧ (parseMethodDescriptor yX0_upOf.desc).map (fun d => d.parameters.length) = some 2 := ⟨by decide +kernel, hd_X0_upOf.2.2⟩
set_option maxHeartbeats 4000000 in
set_option maxRecDepth 100000 in
theorem wk_X0_upOf {X : XC} (O : XOk X cX0_upOf RX0 204 4710) (hfl : (xL X).stackTraces = false) (hg : (xG X).2.2.2.2 = zAll (xG X).1.1 (xG X).1.2.2.2 (xG X).2.2.2.1) (hr : (xMeth X).sig.returnType = (some .long)) (hm : (xC X).maxLocals = 4) (htab : (xC X).exceptionTable.toList = tableOf [(0, 14, 15, 89)]) (x0 : Int64) (x2 : Int32) (s : XS) : Sim X xI (retC X eL xI) 0 [(0, .long x0), (2, .int x2)] [] s (x0_upOf x0 x2 s) := by
  have hzz := O.hst
  rw [hg] at hzz
  unfold x0_upOf
  refine x_new O (ci := 6) (T := TX6) (N := 3) (fs := dfX6) in_X6 tyX6 tyX6_ok rfl 3 q1065 q1066 q156 rfl dfX6_ok dX0_upOf_0 (fun p1 s2 => ?_)
  refine s_dup O rfl dX0_upOf_3 ?_
  refine s_lload_n O 0 rfl rfl dX0_upOf_4 ?_
  refine s_iload_n O 1 rfl rfl dX0_upOf_5 ?_
  refine x_callI O (enc2 := eU) (av := [.long x0, .int x2]) (rest := [.ref p1]) 2 (fun v0 t0 h0 => mt_X6_init (xL X) (xG X) hfl hg p1 x0 x2 _ t0 v0 h0) q1069 q156 q1067 q1068 rfl hd_X6_init ⟨Nat.le_of_ble_eq_true rfl, Nat.le_of_ble_eq_true rfl⟩ rfl (Nat.le_of_ble_eq_true rfl) dX0_upOf_6 (fun v3 s4 => ?_)
  refine s_iconst O (x := 1) (by decide) dX0_upOf_9 ?_
  refine s_iconst O (x := 1) (by decide) dX0_upOf_10 ?_
  refine x_callVT O (enc2 := eL) (ci := 6) (cj := 11) (av := [.int 1, .int 1]) (rest := []) 2 (fun v0 t0 h0 => mt_X6_moved (xL X) (xG X) hfl hg p1 1 1 _ t0 v0 h0) (lw_V q1095 q1096 q1097 q156 q1098) hv_X6_moved ⟨Nat.le_of_ble_eq_true rfl, Nat.le_of_ble_eq_true rfl⟩ rfl rfl (Nat.le_of_ble_eq_true rfl) dX0_upOf_11 (fun v5 s6 => ?_) (fun p7 s8 => ?_)
  · exact s_lreturn O hr rfl dX0_upOf_14
  · refine sx_catch O (ci := 11) (r := (RJ17, TJ17, 6)) (name := "java/lang/ArithmeticException") (hpc := 15) htab ⟨0, 14, 15, 89⟩ [] rfl (by decide) (by decide) q1041 rfl (zc_q1061 hzz) rfl ?_
    refine s_astore_n O (L' := [(3, .ref p7), (0, .long x0), (2, .int x2)]) hm (by decide) rfl rfl dX0_upOf_15 ?_
    refine s_ldc2 O (x := (-2)) q1116 dX0_upOf_16 ?_
    exact s_lreturn O hr rfl dX0_upOf_19
theorem mt_X0_upOf (l : Launch) (G : XG) (hfl : l.stackTraces = false) (hg : G.2.2.2.2 = zAll G.1.1 G.1.2.2.2 G.2.2.2.1) (x0 : Int64) (x2 : Int32) (s t : XS) (v : Int64) (h : x0_upOf x0 x2 s = some (v, t)) : xMet l yX0_upOf (wsW_ yX0_upOf cX0_upOf 4 (some .long) [(0, 14, 15, 89)]) 204 4710 G (xI s) [.long x0, .int x2] (eL v) (xI t) :=
  xMet_ofH (E := xI) (enc := eL) (by decide +kernel) (Nat.le_of_ble_eq_true rfl) (fun X hl hG O hr hm htab => by subst hl; subst hG; exact wk_X0_upOf O hfl hg hr hm htab x0 x2 s) h
theorem hd_X0_room : yX0_room.cls ≠ "java/lang/invoke/MethodHandle" ∧ yX0_room.cls ≠ "java/lang/invoke/VarHandle" ∧ (parseMethodDescriptor yX0_room.desc).map (fun d => d.parameters.length) = some 1 := by decide +kernel
theorem hv_X0_room : yX0_room.cls = RX0 ∧ yX0_room.cls ≠ "java/lang/invoke/MethodHandle" ∧ yX0_room.cls ≠ "java/lang/invoke/VarHandle" ∧ (parseMethodDescriptor yX0_room.desc).map (fun d => d.parameters.length) = some 1 := ⟨rfl, hd_X0_room⟩
theorem hu_X0_room : yX0_room.name ≠ "<init>" ∧ (parseMethodDescriptor yX0_room.desc).map (fun d => d.parameters.length) = some 1 := ⟨by decide +kernel, hd_X0_room.2.2⟩
set_option maxHeartbeats 4000000 in
set_option maxRecDepth 100000 in
theorem wk_X0_room {X : XC} (O : XOk X cX0_room RX0 205 4733) (hfl : (xL X).stackTraces = false) (hg : (xG X).2.2.2.2 = zAll (xG X).1.1 (xG X).1.2.2.2 (xG X).2.2.2.1) (hr : (xMeth X).sig.returnType = (some .long)) (hm : (xC X).maxLocals = 2) (o : Nat) (x1 : Int32) (s : XS) : Sim X xI (retC X eL xI) 0 [(0, .ref o), (1, .int x1)] [] s (x0_room o x1 s) := by
  have hzz := O.hst
  rw [hg] at hzz
  unfold x0_room
  refine s_iload_n O 1 rfl rfl dX0_room_0 ?_
  refine s_i2l O dX0_room_1 ?_
  refine s_lconst O (x := 1) (by decide) dX0_room_2 ?_
  refine s_ldc2 O (x := 39) q1037 dX0_room_3 ?_
  refine s_callP O (enc2 := eI) (av := [.long x1.toInt64, .long 1, .long 39]) (rest := []) 3 (fun v0 h0 => mt_X0_isIn (xL X) (xG X) _ x1.toInt64 1 39 v0 h0) (lw_S q317 q318 q131 q319) hd_X0_isIn ⟨Nat.le_of_ble_eq_true rfl, Nat.le_of_ble_eq_true rfl⟩ rfl (Nat.le_of_ble_eq_true rfl) dX0_room_6 (fun v1 => ?_)
  refine s_if_eq O (tgt := 40) dX0_room_9 (by decide) ?_ ?_
  · refine s_ldc2 O (x := (-1)) q1117 dX0_room_40 ?_
    exact s_lreturn O hr rfl dX0_room_43
  · refine s_aload_n O 0 rfl rfl dX0_room_12 ?_
    refine x_get O (ci := 0) (T := TX0) (N := 20) in_X0 rfl 3 (by decide) q234 (fun _ h => h) dX0_room_13 (fun v0 => ?_)
    refine s_vR (fun r3 => ?_)
    refine s_iload_n O 1 rfl rfl dX0_room_16 ?_
    refine s_dr (fun p4 hp5 => ?_)
    subst hp5
    refine x_callV O (enc2 := eI) (ci := 1) (av := [.int x1]) (rest := []) 1 (fun v0 t0 h0 => mt_X1_size (xL X) (xG X) hfl hg p4 x1 _ t0 v0 h0) (lw_V q984 q985 q986 q132 q987) hv_X1_size ⟨Nat.le_of_ble_eq_true rfl, Nat.le_of_ble_eq_true rfl⟩ rfl rfl (Nat.le_of_ble_eq_true rfl) dX0_room_17 (fun v6 s7 => ?_)
    refine s_i2l O dX0_room_20 ?_
    refine s_iload_n O 1 rfl rfl dX0_room_21 ?_
    refine x_callSH O (enc2 := eL) (av := [.long v6.toInt64, .int x1]) (rest := []) 2 (fun v0 t0 h0 => mt_X0_upOf (xL X) (xG X) hfl hg v6.toInt64 x1 _ t0 v0 h0) (lw_SW q1038 q1039 q131 q1040) hd_X0_upOf ⟨Nat.le_of_ble_eq_true rfl, Nat.le_of_ble_eq_true rfl⟩ rfl (Nat.le_of_ble_eq_true rfl) dX0_room_22 (fun v8 s9 => ?_)
    refine s_aload_n O 0 rfl rfl dX0_room_25 ?_
    refine x_get O (ci := 0) (T := TX0) (N := 20) in_X0 rfl 3 (by decide) q234 (fun _ h => h) dX0_room_26 (fun v0 => ?_)
    refine s_vR (fun r10 => ?_)
    refine s_iload_n O 1 rfl rfl dX0_room_29 ?_
    refine s_iconst O (x := 1) (by decide) dX0_room_30 ?_
    refine s_iadd O dX0_room_31 ?_
    refine s_dr (fun p11 hp12 => ?_)
    subst hp12
    refine x_callV O (enc2 := eI) (ci := 1) (av := [.int (x1 + 1)]) (rest := [.long v8]) 1 (fun v0 t0 h0 => mt_X1_size (xL X) (xG X) hfl hg p11 (x1 + 1) _ t0 v0 h0) (lw_V q984 q985 q986 q132 q987) hv_X1_size ⟨Nat.le_of_ble_eq_true rfl, Nat.le_of_ble_eq_true rfl⟩ rfl rfl (Nat.le_of_ble_eq_true rfl) dX0_room_32 (fun v13 s14 => ?_)
    refine s_i2l O dX0_room_35 ?_
    refine s_lsub O dX0_room_36 ?_
    refine s_goto O (tgt := 43) dX0_room_37 (by decide) ?_
    exact s_lreturn O hr rfl dX0_room_43
theorem mt_X0_room (l : Launch) (G : XG) (hfl : l.stackTraces = false) (hg : G.2.2.2.2 = zAll G.1.1 G.1.2.2.2 G.2.2.2.1) (o : Nat) (x1 : Int32) (s t : XS) (v : Int64) (h : x0_room o x1 s = some (v, t)) : xMet l yX0_room (ws_ yX0_room cX0_room 2 (some .long)) 205 4733 G (xI s) [.ref o, .int x1] (eL v) (xI t) :=
  xMet_of (E := xI) (enc := eL) (by decide +kernel) (Nat.le_of_ble_eq_true rfl) (fun X hl hG O hr hm => by subst hl; subst hG; exact wk_X0_room O hfl hg hr hm o x1 s) h
theorem hd_J2_isEmpty : yJ2_isEmpty.cls ≠ "java/lang/invoke/MethodHandle" ∧ yJ2_isEmpty.cls ≠ "java/lang/invoke/VarHandle" ∧ (parseMethodDescriptor yJ2_isEmpty.desc).map (fun d => d.parameters.length) = some 0 := by decide +kernel
theorem hv_J2_isEmpty : yJ2_isEmpty.cls = RJ2 ∧ yJ2_isEmpty.cls ≠ "java/lang/invoke/MethodHandle" ∧ yJ2_isEmpty.cls ≠ "java/lang/invoke/VarHandle" ∧ (parseMethodDescriptor yJ2_isEmpty.desc).map (fun d => d.parameters.length) = some 0 := ⟨rfl, hd_J2_isEmpty⟩
theorem hu_J2_isEmpty : yJ2_isEmpty.name ≠ "<init>" ∧ (parseMethodDescriptor yJ2_isEmpty.desc).map (fun d => d.parameters.length) = some 0 := ⟨by decide +kernel, hd_J2_isEmpty.2.2⟩
theorem hf_J2_isEmpty : (⟨"java/util/List", "isEmpty", "()Z"⟩ : MethodName).cls ≠ "java/lang/invoke/MethodHandle" ∧ (⟨"java/util/List", "isEmpty", "()Z"⟩ : MethodName).cls ≠ "java/lang/invoke/VarHandle" ∧ (parseMethodDescriptor (⟨"java/util/List", "isEmpty", "()Z"⟩ : MethodName).desc).map (fun d => d.parameters.length) = some 0 := by decide +kernel
set_option maxHeartbeats 4000000 in
set_option maxRecDepth 100000 in
theorem wk_J2_isEmpty {X : XC} (O : XOk X cJ2_isEmpty RJ2 0 0) (hfl : (xL X).stackTraces = false) (hg : (xG X).2.2.2.2 = zAll (xG X).1.1 (xG X).1.2.2.2 (xG X).2.2.2.1) (hr : (xMeth X).sig.returnType = (some .boolean)) (hm : (xC X).maxLocals = 1) (o : Nat) (s : XS) : Sim X xI (retC X eI xI) 0 [(0, .ref o)] [] s (j2_isEmpty o s) := by
  have hzz := O.hst
  rw [hg] at hzz
  unfold j2_isEmpty
  refine s_aload_n O 0 rfl rfl dJ2_isEmpty_0 ?_
  refine x_get O (ci := 7) (T := TJ2) (N := 3) in_J2 rfl 2 (by decide) q191 (fun _ h => h) dJ2_isEmpty_1 (fun v0 => ?_)
  refine s_vI (fun u1 => ?_)
  refine s_if_ne O (tgt := 11) dJ2_isEmpty_4 (by decide) ?_ ?_
  · refine s_iconst O (x := 0) (by decide) dJ2_isEmpty_11 ?_
    exact s_zreturnK O hr rfl rfl dJ2_isEmpty_12
  · refine s_iconst O (x := 1) (by decide) dJ2_isEmpty_7 ?_
    refine s_goto O (tgt := 12) dJ2_isEmpty_8 (by decide) ?_
    exact s_zreturnK O hr rfl rfl dJ2_isEmpty_12
theorem mt_J2_isEmpty (l : Launch) (G : XG) (hfl : l.stackTraces = false) (hg : G.2.2.2.2 = zAll G.1.1 G.1.2.2.2 G.2.2.2.1) (o : Nat) (s t : XS) (v : Int32) (h : j2_isEmpty o s = some (v, t)) : xMet l yJ2_isEmpty (ws_ yJ2_isEmpty cJ2_isEmpty 1 (some .boolean)) 0 0 G (xI s) [.ref o] (eI v) (xI t) :=
  xMet_of (E := xI) (enc := eI) (by decide +kernel) (Nat.le_of_ble_eq_true rfl) (fun X hl hG O hr hm => by subst hl; subst hG; exact wk_J2_isEmpty O hfl hg hr hm o s) h
theorem hd_X1_highest : yX1_highest.cls ≠ "java/lang/invoke/MethodHandle" ∧ yX1_highest.cls ≠ "java/lang/invoke/VarHandle" ∧ (parseMethodDescriptor yX1_highest.desc).map (fun d => d.parameters.length) = some 0 := by decide +kernel
theorem hv_X1_highest : yX1_highest.cls = RX1 ∧ yX1_highest.cls ≠ "java/lang/invoke/MethodHandle" ∧ yX1_highest.cls ≠ "java/lang/invoke/VarHandle" ∧ (parseMethodDescriptor yX1_highest.desc).map (fun d => d.parameters.length) = some 0 := ⟨rfl, hd_X1_highest⟩
theorem hu_X1_highest : yX1_highest.name ≠ "<init>" ∧ (parseMethodDescriptor yX1_highest.desc).map (fun d => d.parameters.length) = some 0 := ⟨by decide +kernel, hd_X1_highest.2.2⟩
set_option maxHeartbeats 4000000 in
set_option maxRecDepth 100000 in
theorem wk_X1_highest {X : XC} (O : XOk X cX1_highest RX1 3 64) (hfl : (xL X).stackTraces = false) (hg : (xG X).2.2.2.2 = zAll (xG X).1.1 (xG X).1.2.2.2 (xG X).2.2.2.1) (hr : (xMeth X).sig.returnType = (some .int)) (hm : (xC X).maxLocals = 1) (o : Nat) (s : XS) : Sim X xI (retC X eI xI) 0 [(0, .ref o)] [] s (x1_highest o s) := by
  have hzz := O.hst
  rw [hg] at hzz
  unfold x1_highest
  refine s_aload_n O 0 rfl rfl dX1_highest_0 ?_
  refine x_get O (ci := 1) (T := TX1) (N := 6) in_X1 rfl 1 (by decide) q207 (fun _ h => h) dX1_highest_1 (fun v0 => ?_)
  refine s_vR (fun r1 => ?_)
  refine s_dr (fun p2 hp3 => ?_)
  subst hp3
  refine x_callF O (enc2 := eI) (ci := 7) (av := []) (rest := []) 0 (fun v0 t0 h0 => mt_J2_isEmpty (xL X) (xG X) hfl hg p2 _ t0 v0 h0) (lw_F q1128 q1131 q1133 q135 q1135) (zw_6 hzz) hf_J2_isEmpty ⟨Nat.le_of_ble_eq_true rfl, Nat.le_of_ble_eq_true rfl⟩ rfl rfl (Nat.le_of_ble_eq_true rfl) dX1_highest_4 (fun v4 s5 => ?_)
  refine s_if_eq O (tgt := 16) dX1_highest_9 (by decide) ?_ ?_
  · refine s_aload_n O 0 rfl rfl dX1_highest_16 ?_
    refine x_get O (ci := 1) (T := TX1) (N := 6) in_X1 rfl 1 (by decide) q207 (fun _ h => h) dX1_highest_17 (fun v0 => ?_)
    refine s_vR (fun r6 => ?_)
    refine s_aload_n O 0 rfl rfl dX1_highest_20 ?_
    refine x_get O (ci := 1) (T := TX1) (N := 6) in_X1 rfl 1 (by decide) q207 (fun _ h => h) dX1_highest_21 (fun v0 => ?_)
    refine s_vR (fun r7 => ?_)
    refine s_dr (fun p8 hp9 => ?_)
    subst hp9
    refine x_callF O (enc2 := eI) (ci := 7) (av := []) (rest := [va_rf r6]) 0 (fun v0 t0 h0 => mt_J2_size (xL X) (xG X) hfl hg p8 _ t0 v0 h0) (lw_F q839 q695 q697 q135 q699) (zw_0 hzz) hf_J2_size ⟨Nat.le_of_ble_eq_true rfl, Nat.le_of_ble_eq_true rfl⟩ rfl rfl (by generalize r6 = zq0; cases zq0 <;> exact Nat.le_of_ble_eq_true rfl) dX1_highest_24 (fun v10 s11 => ?_)
    refine s_iconst O (x := 1) (by decide) dX1_highest_29 ?_
    refine s_isub O dX1_highest_30 ?_
    refine s_dr (fun p12 hp13 => ?_)
    subst hp13
    refine x_callF O (enc2 := eR) (ci := 7) (av := [.int (v10 - 1)]) (rest := []) 1 (fun v0 t0 h0 => mt_J2_get (xL X) (xG X) hfl hg p12 (v10 - 1) _ t0 v0 h0) (lw_F q841 q844 q846 q135 q848) (zw_3 hzz) hf_J2_get ⟨Nat.le_of_ble_eq_true rfl, Nat.le_of_ble_eq_true rfl⟩ rfl rfl (Nat.le_of_ble_eq_true rfl) dX1_highest_31 (fun r14 s15 => ?_)
    refine s_dr (fun p16 hp17 => ?_)
    subst hp17
    refine x_cast O (ci := 5) rfl q829 dX1_highest_36 ?_
    refine x_getN O (ci := 5) (T := TX5) (N := 2) in_X5 rfl 1 (by decide) (zf_q710 hzz) (fun _ h => h) dX1_highest_39 (fun v0 => ?_)
    refine s_vI (fun u18 => ?_)
    exact s_ireturn O hr rfl dX1_highest_42
  · refine s_iconst O (x := 0) (by decide) dX1_highest_12 ?_
    refine s_goto O (tgt := 42) dX1_highest_13 (by decide) ?_
    exact s_ireturn O hr rfl dX1_highest_42
theorem mt_X1_highest (l : Launch) (G : XG) (hfl : l.stackTraces = false) (hg : G.2.2.2.2 = zAll G.1.1 G.1.2.2.2 G.2.2.2.1) (o : Nat) (s t : XS) (v : Int32) (h : x1_highest o s = some (v, t)) : xMet l yX1_highest (ws_ yX1_highest cX1_highest 1 (some .int)) 3 64 G (xI s) [.ref o] (eI v) (xI t) :=
  xMet_of (E := xI) (enc := eI) (by decide +kernel) (Nat.le_of_ble_eq_true rfl) (fun X hl hG O hr hm => by subst hl; subst hG; exact wk_X1_highest O hfl hg hr hm o s) h
theorem hd_X0_growth : yX0_growth.cls ≠ "java/lang/invoke/MethodHandle" ∧ yX0_growth.cls ≠ "java/lang/invoke/VarHandle" ∧ (parseMethodDescriptor yX0_growth.desc).map (fun d => d.parameters.length) = some 1 := by decide +kernel
theorem hv_X0_growth : yX0_growth.cls = RX0 ∧ yX0_growth.cls ≠ "java/lang/invoke/MethodHandle" ∧ yX0_growth.cls ≠ "java/lang/invoke/VarHandle" ∧ (parseMethodDescriptor yX0_growth.desc).map (fun d => d.parameters.length) = some 1 := ⟨rfl, hd_X0_growth⟩
theorem hu_X0_growth : yX0_growth.name ≠ "<init>" ∧ (parseMethodDescriptor yX0_growth.desc).map (fun d => d.parameters.length) = some 1 := ⟨by decide +kernel, hd_X0_growth.2.2⟩
set_option maxHeartbeats 4000000 in
set_option maxRecDepth 100000 in
theorem wk_X0_growth {X : XC} (O : XOk X cX0_growth RX0 206 4754) (hfl : (xL X).stackTraces = false) (hg : (xG X).2.2.2.2 = zAll (xG X).1.1 (xG X).1.2.2.2 (xG X).2.2.2.1) (hr : (xMeth X).sig.returnType = (some .int)) (hm : (xC X).maxLocals = 2) (o : Nat) (x1 : Int32) (s : XS) : Sim X xI (retC X eI xI) 0 [(0, .ref o), (1, .int x1)] [] s (x0_growth o x1 s) := by
  have hzz := O.hst
  rw [hg] at hzz
  unfold x0_growth
  refine s_iload_n O 1 rfl rfl dX0_growth_0 ?_
  refine s_i2l O dX0_growth_1 ?_
  refine s_lconst O (x := 1) (by decide) dX0_growth_2 ?_
  refine s_ldc2 O (x := 39) q1037 dX0_growth_3 ?_
  refine s_callP O (enc2 := eI) (av := [.long x1.toInt64, .long 1, .long 39]) (rest := []) 3 (fun v0 h0 => mt_X0_isIn (xL X) (xG X) _ x1.toInt64 1 39 v0 h0) (lw_S q317 q318 q131 q319) hd_X0_isIn ⟨Nat.le_of_ble_eq_true rfl, Nat.le_of_ble_eq_true rfl⟩ rfl (Nat.le_of_ble_eq_true rfl) dX0_growth_6 (fun v1 => ?_)
  refine s_if_ne O (tgt := 14) dX0_growth_9 (by decide) ?_ ?_
  · refine s_aload_n O 0 rfl rfl dX0_growth_14 ?_
    refine s_iload_n O 1 rfl rfl dX0_growth_15 ?_
    refine x_callV O (enc2 := eL) (ci := 0) (av := [.int x1]) (rest := []) 1 (fun v0 t0 h0 => mt_X0_room (xL X) (xG X) hfl hg o x1 _ t0 v0 h0) (lw_V q1122 q1034 q1035 q131 q1036) hv_X0_room ⟨Nat.le_of_ble_eq_true rfl, Nat.le_of_ble_eq_true rfl⟩ rfl rfl (Nat.le_of_ble_eq_true rfl) dX0_growth_16 (fun v3 s4 => ?_)
    refine s_lconst O (x := 0) (by decide) dX0_growth_19 ?_
    refine s_lcmp_le O (tgt := 28) dX0_growth_20 dX0_growth_21 (by decide) ?_ ?_
    · refine s_aload_n O 0 rfl rfl dX0_growth_28 ?_
      refine x_get O (ci := 0) (T := TX0) (N := 20) in_X0 rfl 3 (by decide) q234 (fun _ h => h) dX0_growth_29 (fun v0 => ?_)
      refine s_vR (fun r5 => ?_)
      refine s_dr (fun p6 hp7 => ?_)
      subst hp7
      refine x_callV O (enc2 := eI) (ci := 1) (av := []) (rest := []) 0 (fun v0 t0 h0 => mt_X1_highest (xL X) (xG X) hfl hg p6 _ t0 v0 h0) (lw_V q1123 q1124 q1125 q132 q1126) hv_X1_highest ⟨Nat.le_of_ble_eq_true rfl, Nat.le_of_ble_eq_true rfl⟩ rfl rfl (Nat.le_of_ble_eq_true rfl) dX0_growth_32 (fun v8 s9 => ?_)
      refine s_iload_n O 1 rfl rfl dX0_growth_35 ?_
      refine s_icmp_le O (tgt := 43) dX0_growth_36 (by decide) ?_ ?_
      · refine s_iconst O (x := 2) (by decide) dX0_growth_43 ?_
        exact s_ireturn O hr rfl dX0_growth_44
      · refine s_iconst O (x := 1) (by decide) dX0_growth_39 ?_
        refine s_goto O (tgt := 44) dX0_growth_40 (by decide) ?_
        exact s_ireturn O hr rfl dX0_growth_44
    · refine s_iconst O (x := 0) (by decide) dX0_growth_24 ?_
      refine s_goto O (tgt := 44) dX0_growth_25 (by decide) ?_
      exact s_ireturn O hr rfl dX0_growth_44
  · refine s_iconst O (x := (-1)) (by decide) dX0_growth_12 ?_
    exact s_ireturn O hr rfl dX0_growth_13
theorem mt_X0_growth (l : Launch) (G : XG) (hfl : l.stackTraces = false) (hg : G.2.2.2.2 = zAll G.1.1 G.1.2.2.2 G.2.2.2.1) (o : Nat) (x1 : Int32) (s t : XS) (v : Int32) (h : x0_growth o x1 s = some (v, t)) : xMet l yX0_growth (ws_ yX0_growth cX0_growth 2 (some .int)) 206 4754 G (xI s) [.ref o, .int x1] (eI v) (xI t) :=
  xMet_of (E := xI) (enc := eI) (by decide +kernel) (Nat.le_of_ble_eq_true rfl) (fun X hl hG O hr hm => by subst hl; subst hG; exact wk_X0_growth O hfl hg hr hm o x1 s) h
theorem hd_X0_free : yX0_free.cls ≠ "java/lang/invoke/MethodHandle" ∧ yX0_free.cls ≠ "java/lang/invoke/VarHandle" ∧ (parseMethodDescriptor yX0_free.desc).map (fun d => d.parameters.length) = some 2 := by decide +kernel
theorem hv_X0_free : yX0_free.cls = RX0 ∧ yX0_free.cls ≠ "java/lang/invoke/MethodHandle" ∧ yX0_free.cls ≠ "java/lang/invoke/VarHandle" ∧ (parseMethodDescriptor yX0_free.desc).map (fun d => d.parameters.length) = some 2 := ⟨rfl, hd_X0_free⟩
theorem hu_X0_free : yX0_free.name ≠ "<init>" ∧ (parseMethodDescriptor yX0_free.desc).map (fun d => d.parameters.length) = some 2 := ⟨by decide +kernel, hd_X0_free.2.2⟩
set_option maxHeartbeats 4000000 in
set_option maxRecDepth 100000 in
theorem wk_X0_free {X : XC} (O : XOk X cX0_free RX0 2 45) (hfl : (xL X).stackTraces = false) (hg : (xG X).2.2.2.2 = zAll (xG X).1.1 (xG X).1.2.2.2 (xG X).2.2.2.1) (hr : (xMeth X).sig.returnType = (some .int)) (hm : (xC X).maxLocals = 3) (o : Nat) (x1 : Int32) (x2 : Int32) (s : XS) : Sim X xI (retC X eI xI) 0 [(0, .ref o), (1, .int x1), (2, .int x2)] [] s (x0_free o x1 x2 s) := by
  have hzz := O.hst
  rw [hg] at hzz
  unfold x0_free
  refine s_iload_n O 1 rfl rfl dX0_free_0 ?_
  refine s_callP O (enc2 := eI) (av := [.int x1]) (rest := []) 1 (fun v0 h0 => mt_X0_isDegree (xL X) (xG X) _ x1 v0 h0) (lw_S q920 q921 q131 q922) hd_X0_isDegree ⟨Nat.le_of_ble_eq_true rfl, Nat.le_of_ble_eq_true rfl⟩ rfl (Nat.le_of_ble_eq_true rfl) dX0_free_1 (fun v1 => ?_)
  refine s_if_eq O (tgt := 11) dX0_free_4 (by decide) ?_ ?_
  · refine s_iconst O (x := (-1)) (by decide) dX0_free_11 ?_
    exact s_ireturn O hr rfl dX0_free_12
  · refine s_iload_n O 2 rfl rfl dX0_free_7 ?_
    refine s_if_ge O (tgt := 13) dX0_free_8 (by decide) ?_ ?_
    · exact Sim.none
    · refine s_iconst O (x := (-1)) (by decide) dX0_free_11 ?_
      exact s_ireturn O hr rfl dX0_free_12
theorem mt_X0_free (l : Launch) (G : XG) (hfl : l.stackTraces = false) (hg : G.2.2.2.2 = zAll G.1.1 G.1.2.2.2 G.2.2.2.1) (o : Nat) (x1 : Int32) (x2 : Int32) (s t : XS) (v : Int32) (h : x0_free o x1 x2 s = some (v, t)) : xMet l yX0_free (ws_ yX0_free cX0_free 3 (some .int)) 2 45 G (xI s) [.ref o, .int x1, .int x2] (eI v) (xI t) :=
  xMet_of (E := xI) (enc := eI) (by decide +kernel) (Nat.le_of_ble_eq_true rfl) (fun X hl hG O hr hm => by subst hl; subst hG; exact wk_X0_free O hfl hg hr hm o x1 x2 s) h
theorem hd_X0_isFree : yX0_isFree.cls ≠ "java/lang/invoke/MethodHandle" ∧ yX0_isFree.cls ≠ "java/lang/invoke/VarHandle" ∧ (parseMethodDescriptor yX0_isFree.desc).map (fun d => d.parameters.length) = some 2 := by decide +kernel
theorem hv_X0_isFree : yX0_isFree.cls = RX0 ∧ yX0_isFree.cls ≠ "java/lang/invoke/MethodHandle" ∧ yX0_isFree.cls ≠ "java/lang/invoke/VarHandle" ∧ (parseMethodDescriptor yX0_isFree.desc).map (fun d => d.parameters.length) = some 2 := ⟨rfl, hd_X0_isFree⟩
theorem hu_X0_isFree : yX0_isFree.name ≠ "<init>" ∧ (parseMethodDescriptor yX0_isFree.desc).map (fun d => d.parameters.length) = some 2 := ⟨by decide +kernel, hd_X0_isFree.2.2⟩
set_option maxHeartbeats 4000000 in
set_option maxRecDepth 100000 in
theorem wk_X0_isFree {X : XC} (O : XOk X cX0_isFree RX0 4 86) (hfl : (xL X).stackTraces = false) (hg : (xG X).2.2.2.2 = zAll (xG X).1.1 (xG X).1.2.2.2 (xG X).2.2.2.1) (hr : (xMeth X).sig.returnType = (some .boolean)) (hm : (xC X).maxLocals = 3) (o : Nat) (x1 : Nat) (x2 : Int32) (s : XS) : Sim X xI (retC X eI xI) 0 [(0, .ref o), (1, .ref x1), (2, .int x2)] [] s (x0_isFree o x1 x2 s) := by
  have hzz := O.hst
  rw [hg] at hzz
  unfold x0_isFree
  have hj41 : ∀ (s9 : XS), Sim X (xI) (retC X eI xI) 41 [(0, .ref o)] [] s9 (x0_isFree_j41 o s9) := by
    intro s9
    unfold x0_isFree_j41
    refine s_aload_n O 0 rfl rfl dX0_isFree_41 ?_
    refine s_dup O rfl dX0_isFree_42 ?_
    refine x_get O (ci := 0) (T := TX0) (N := 20) in_X0 rfl 8 (by decide) q239 (fun _ h => h) dX0_isFree_43 (fun v0 => ?_)
    refine s_vI (fun u10 => ?_)
    refine s_iconst O (x := 1) (by decide) dX0_isFree_46 ?_
    refine s_iadd O dX0_isFree_47 ?_
    refine x_put O (ci := 0) (T := TX0) (N := 20) (ty := .int) in_X0 tyX0 tyX0_ok nmX0 rfl 8 (by decide) q239 (fun _ h => h) rfl (by decide +kernel) rfl rfl dX0_isFree_48 (fun s11 => ?_)
    refine s_iconst O (x := 1) (by decide) dX0_isFree_51 ?_
    exact s_zreturnK O hr rfl rfl dX0_isFree_52
  refine s_aload_n O 0 rfl rfl dX0_isFree_0 ?_
  refine s_dup O rfl dX0_isFree_1 ?_
  refine x_get O (ci := 0) (T := TX0) (N := 20) in_X0 rfl 7 (by decide) q238 (fun _ h => h) dX0_isFree_2 (fun v0 => ?_)
  refine s_vI (fun u1 => ?_)
  refine s_iconst O (x := 1) (by decide) dX0_isFree_5 ?_
  refine s_iadd O dX0_isFree_6 ?_
  refine x_put O (ci := 0) (T := TX0) (N := 20) (ty := .int) in_X0 tyX0 tyX0_ok nmX0 rfl 7 (by decide) q238 (fun _ h => h) rfl (by decide +kernel) rfl rfl dX0_isFree_7 (fun s2 => ?_)
  refine s_aload_n O 0 rfl rfl dX0_isFree_10 ?_
  refine x_get O (ci := 0) (T := TX0) (N := 20) in_X0 rfl 3 (by decide) q234 (fun _ h => h) dX0_isFree_11 (fun v0 => ?_)
  refine s_vR (fun r3 => ?_)
  refine s_aload_n O 1 rfl rfl dX0_isFree_14 ?_
  refine s_dr (fun p4 hp5 => ?_)
  subst hp5
  refine x_callV O (enc2 := eI) (ci := 1) (av := [.ref x1]) (rest := []) 1 (fun v0 t0 h0 => mt_X1_covers (xL X) (xG X) hfl hg p4 x1 _ t0 v0 h0) (lw_V q979 q835 q836 q132 q837) hv_X1_covers ⟨Nat.le_of_ble_eq_true rfl, Nat.le_of_ble_eq_true rfl⟩ rfl rfl (Nat.le_of_ble_eq_true rfl) dX0_isFree_15 (fun v6 s7 => ?_)
  refine s_if_eq O (tgt := 23) dX0_isFree_18 (by decide) ?_ ?_
  · refine s_aload_n O 0 rfl rfl dX0_isFree_23 ?_
    refine x_get O (ci := 0) (T := TX0) (N := 20) in_X0 rfl 8 (by decide) q239 (fun _ h => h) dX0_isFree_24 (fun v0 => ?_)
    refine s_vI (fun u8 => ?_)
    refine s_iload_n O 2 rfl rfl dX0_isFree_27 ?_
    refine s_icmp_ne O (tgt := 41) dX0_isFree_28 (by decide) ?_ ?_
    · refine Sim.sub (L' := [(0, .ref o)]) [0] rfl ?_
      exact hj41 _
    · refine s_aload_n O 0 rfl rfl dX0_isFree_31 ?_
      refine s_aload_n O 0 rfl rfl dX0_isFree_32 ?_
      refine x_get O (ci := 0) (T := TX0) (N := 20) in_X0 rfl 7 (by decide) q238 (fun _ h => h) dX0_isFree_33 (fun v0 => ?_)
      refine s_vI (fun u12 => ?_)
      refine s_iconst O (x := 1) (by decide) dX0_isFree_36 ?_
      refine s_isub O dX0_isFree_37 ?_
      refine x_put O (ci := 0) (T := TX0) (N := 20) (ty := .int) in_X0 tyX0 tyX0_ok nmX0 rfl 9 (by decide) q240 (fun _ h => h) rfl (by decide +kernel) rfl rfl dX0_isFree_38 (fun s13 => ?_)
      refine Sim.sub (L' := [(0, .ref o)]) [0] rfl ?_
      exact hj41 _
  · refine s_iconst O (x := 0) (by decide) dX0_isFree_21 ?_
    exact s_zreturnK O hr rfl rfl dX0_isFree_22
theorem mt_X0_isFree (l : Launch) (G : XG) (hfl : l.stackTraces = false) (hg : G.2.2.2.2 = zAll G.1.1 G.1.2.2.2 G.2.2.2.1) (o : Nat) (x1 : Nat) (x2 : Int32) (s t : XS) (v : Int32) (h : x0_isFree o x1 x2 s = some (v, t)) : xMet l yX0_isFree (ws_ yX0_isFree cX0_isFree 3 (some .boolean)) 4 86 G (xI s) [.ref o, .ref x1, .int x2] (eI v) (xI t) :=
  xMet_of (E := xI) (enc := eI) (by decide +kernel) (Nat.le_of_ble_eq_true rfl) (fun X hl hG O hr hm => by subst hl; subst hG; exact wk_X0_isFree O hfl hg hr hm o x1 x2 s) h
theorem hd_X0_lambda_free_0 : yX0_lambda_free_0.cls ≠ "java/lang/invoke/MethodHandle" ∧ yX0_lambda_free_0.cls ≠ "java/lang/invoke/VarHandle" ∧ (parseMethodDescriptor yX0_lambda_free_0.desc).map (fun d => d.parameters.length) = some 2 := by decide +kernel
theorem hv_X0_lambda_free_0 : yX0_lambda_free_0.cls = RX0 ∧ yX0_lambda_free_0.cls ≠ "java/lang/invoke/MethodHandle" ∧ yX0_lambda_free_0.cls ≠ "java/lang/invoke/VarHandle" ∧ (parseMethodDescriptor yX0_lambda_free_0.desc).map (fun d => d.parameters.length) = some 2 := ⟨rfl, hd_X0_lambda_free_0⟩
theorem hu_X0_lambda_free_0 : yX0_lambda_free_0.name ≠ "<init>" ∧ (parseMethodDescriptor yX0_lambda_free_0.desc).map (fun d => d.parameters.length) = some 2 := ⟨by decide +kernel, hd_X0_lambda_free_0.2.2⟩
set_option maxHeartbeats 4000000 in
set_option maxRecDepth 100000 in
theorem wk_X0_lambda_free_0 {X : XC} (O : XOk X cX0_lambda_free_0 RX0 5 108) (hfl : (xL X).stackTraces = false) (hg : (xG X).2.2.2.2 = zAll (xG X).1.1 (xG X).1.2.2.2 (xG X).2.2.2.1) (hr : (xMeth X).sig.returnType = (some .boolean)) (hm : (xC X).maxLocals = 3) (o : Nat) (x1 : Int32) (x2 : Nat) (s : XS) : Sim X xI (retC X eI xI) 0 [(0, .ref o), (1, .int x1), (2, .ref x2)] [] s (x0_lambda_free_0 o x1 x2 s) := by
  have hzz := O.hst
  rw [hg] at hzz
  unfold x0_lambda_free_0
  refine s_aload_n O 0 rfl rfl dX0_lambda_free_0_0 ?_
  refine s_aload_n O 2 rfl rfl dX0_lambda_free_0_1 ?_
  refine s_iload_n O 1 rfl rfl dX0_lambda_free_0_2 ?_
  refine x_callV O (enc2 := eI) (ci := 0) (av := [.ref x2, .int x1]) (rest := []) 2 (fun v0 t0 h0 => mt_X0_isFree (xL X) (xG X) hfl hg o x2 x1 _ t0 v0 h0) (lw_V q1143 q1145 qs29 q131 q1146) hv_X0_isFree ⟨Nat.le_of_ble_eq_true rfl, Nat.le_of_ble_eq_true rfl⟩ rfl rfl (Nat.le_of_ble_eq_true rfl) dX0_lambda_free_0_3 (fun v1 s2 => ?_)
  exact s_zretB O hr rfl dX0_lambda_free_0_6
theorem mt_X0_lambda_free_0 (l : Launch) (G : XG) (hfl : l.stackTraces = false) (hg : G.2.2.2.2 = zAll G.1.1 G.1.2.2.2 G.2.2.2.1) (o : Nat) (x1 : Int32) (x2 : Nat) (s t : XS) (v : Int32) (h : x0_lambda_free_0 o x1 x2 s = some (v, t)) : xMet l yX0_lambda_free_0 (ws_ yX0_lambda_free_0 cX0_lambda_free_0 3 (some .boolean)) 5 108 G (xI s) [.ref o, .int x1, .ref x2] (eI v) (xI t) :=
  xMet_of (E := xI) (enc := eI) (by decide +kernel) (Nat.le_of_ble_eq_true rfl) (fun X hl hG O hr hm => by subst hl; subst hG; exact wk_X0_lambda_free_0 O hfl hg hr hm o x1 x2 s) h
theorem hd_X1_count : yX1_count.cls ≠ "java/lang/invoke/MethodHandle" ∧ yX1_count.cls ≠ "java/lang/invoke/VarHandle" ∧ (parseMethodDescriptor yX1_count.desc).map (fun d => d.parameters.length) = some 3 := by decide +kernel
theorem hv_X1_count : yX1_count.cls = RX1 ∧ yX1_count.cls ≠ "java/lang/invoke/MethodHandle" ∧ yX1_count.cls ≠ "java/lang/invoke/VarHandle" ∧ (parseMethodDescriptor yX1_count.desc).map (fun d => d.parameters.length) = some 3 := ⟨rfl, hd_X1_count⟩
theorem hu_X1_count : yX1_count.name ≠ "<init>" ∧ (parseMethodDescriptor yX1_count.desc).map (fun d => d.parameters.length) = some 3 := ⟨by decide +kernel, hd_X1_count.2.2⟩
set_option maxHeartbeats 4000000 in
set_option maxRecDepth 100000 in
theorem wk_X1_count {X : XC} {F Lo fr0 lo0 : Nat} (O : XOk X cX1_count RX1 F Lo) (hf1 : fr0 + 1 ≤ F ∧ 8 + (6 + 11) + lo0 ≤ Lo) (hf2 : 0 ≤ F ∧ 0 ≤ Lo) (hfl : (xL X).stackTraces = false) (hg : (xG X).2.2.2.2 = zAll (xG X).1.1 (xG X).1.2.2.2 (xG X).2.2.2.1) (hr : (xMeth X).sig.returnType = (some .int)) (hm : (xC X).maxLocals = 6) (rc : Nat → Int32 → Int32 → Nat → XS → Option ((Int32) × XS)) (ih : ∀ (o : Nat) (x1 : Int32) (x2 : Int32) (x3 : Nat) (s t : XS) (v : Int32), rc o x1 x2 x3 s = some (v, t) → xMet (xL X) yX1_count (ws_ yX1_count cX1_count 6 (some .int)) fr0 lo0 (xG X) (xI s) [.ref o, .int x1, .int x2, .ref x3] (eI v) (xI t)) (o : Nat) (x1 : Int32) (x2 : Int32) (x3 : Nat) (s : XS) : Sim X xI (retC X eI xI) 0 [(0, .ref o), (1, .int x1), (2, .int x2), (3, .ref x3)] [] s (x1_count_b rc o x1 x2 x3 s) := by
  have hzz := O.hst
  rw [hg] at hzz
  unfold x1_count_b
  refine s_iload_n O 1 rfl rfl dX1_count_0 ?_
  refine s_aload_n O 0 rfl rfl dX1_count_1 ?_
  refine x_get O (ci := 1) (T := TX1) (N := 6) in_X1 rfl 0 (by decide) q205 (fun _ h => h) dX1_count_2 (fun v0 => ?_)
  refine s_vI (fun u1 => ?_)
  refine s_iconst O (x := 1) (by decide) dX1_count_5 ?_
  refine s_isub O dX1_count_6 ?_
  refine s_icmp_ne O (tgt := 31) dX1_count_7 (by decide) ?_ ?_
  · refine s_iconst O (x := 0) (by decide) dX1_count_31 ?_
    refine s_istore O (L' := [(4, .int 0), (0, .ref o), (1, .int x1), (2, .int x2), (3, .ref x3)]) hm (by decide) rfl dX1_count_32 ?_
    refine s_iload_n O 3 rfl rfl dX1_count_34 ?_
    refine s_istore O (L' := [(5, .int x2), (4, .int 0), (0, .ref o), (1, .int x1), (2, .int x2), (3, .ref x3)]) hm (by decide) rfl dX1_count_35 ?_
    refine Sim.sub (L' := [(0, .ref o), (1, .int x1), (2, .int x2), (3, .ref x3), (4, .int 0), (5, .int x2)]) [2, 3, 4, 5, 1, 0] rfl ?_
    refine s_while (A := Int32 × Int32) (B := Int32) (La := fun a37 => [(0, .ref o), (1, .int x1), (2, .int x2), (3, .ref x3), (4, .int a37.1), (5, .int a37.2)]) (We := fun b37 s10 => xWX X 73 [(0, .ref o), (1, .int x1), (4, .int b37)] [] ((xI) s10)) rfl rfl ?_ ?_
    · intro Cl hn he a37 s2
      unfold x1_count_s37
      refine s_iload O 5 rfl dX1_count_37 ?_
      refine s_if_lt O (tgt := 73) dX1_count_39 (by decide) ?_ ?_
      · refine Sim.sub (L' := [(0, .ref o), (1, .int x1), (4, .int a37.1)]) [0, 1, 4] rfl ?_
        exact Sim.ret (he _ _)
      · refine s_aload_n O 0 rfl rfl dX1_count_42 ?_
        refine x_get O (ci := 1) (T := TX1) (N := 6) in_X1 rfl 5 (by decide) q213 (fun _ h => h) dX1_count_43 (fun v0 => ?_)
        refine s_vR (fun r3 => ?_)
        refine s_iload_n O 1 rfl rfl dX1_count_46 ?_
        refine s_iload O 5 rfl dX1_count_47 ?_
        refine s_dr (fun p4 hp5 => ?_)
        subst hp5
        refine x_iast O dX1_count_49 (fun s6 => ?_)
        refine s_iload O 4 rfl dX1_count_50 ?_
        refine s_aload_n O 0 rfl rfl dX1_count_52 ?_
        refine s_iload_n O 1 rfl rfl dX1_count_53 ?_
        refine s_iconst O (x := 1) (by decide) dX1_count_54 ?_
        refine s_iadd O dX1_count_55 ?_
        refine s_iload_n O 2 rfl rfl dX1_count_56 ?_
        refine s_iload O 5 rfl dX1_count_57 ?_
        refine s_isub O dX1_count_59 ?_
        refine s_aload_n O 3 rfl rfl dX1_count_60 ?_
        refine x_callV O (enc2 := eI) (ci := 1) (av := [.int (x1 + 1), .int (x2 - a37.2), .ref x3]) (rest := [.int a37.1]) 3 (fun v0 t0 h0 => ih o (x1 + 1) (x2 - a37.2) x3 _ t0 v0 h0) (lw_V q991 q992 q993 q132 q994) hv_X1_count hf1 rfl rfl (Nat.le_of_ble_eq_true rfl) dX1_count_61 (fun v7 s8 => ?_)
        refine s_iadd O dX1_count_64 ?_
        refine s_nmi fun u9 => ?_
        refine s_istore O (L' := [(4, .int u9), (0, .ref o), (1, .int x1), (2, .int x2), (3, .ref x3), (5, .int a37.2)]) hm (by decide) rfl dX1_count_65 ?_
        refine s_iinc O (y := (a37.2 + (-1))) (L' := [(5, .int (a37.2 + (-1))), (4, .int u9), (0, .ref o), (1, .int x1), (2, .int x2), (3, .ref x3)]) 5 rfl hm (by decide) (congrArg (HAdd.hAdd a37.2) (by decide)) rfl dX1_count_67 ?_
        refine s_goto O (tgt := 37) dX1_count_70 (by decide) ?_
        refine Sim.sub (L' := [(0, .ref o), (1, .int x1), (2, .int x2), (3, .ref x3), (4, .int u9), (5, .int (a37.2 + (-1)))]) [2, 3, 4, 5, 1, 0] rfl ?_
        exact Sim.ret (hn _ _)
    · intro b37 s10
      show Sim X (xI) (retC X eI xI) 73 [(0, .ref o), (1, .int x1), (4, .int b37)] [] s10 _
      refine s_aload_n O 0 rfl rfl dX1_count_73 ?_
      refine x_get O (ci := 1) (T := TX1) (N := 6) in_X1 rfl 5 (by decide) q213 (fun _ h => h) dX1_count_74 (fun v0 => ?_)
      refine s_vR (fun r11 => ?_)
      refine s_iload_n O 1 rfl rfl dX1_count_77 ?_
      refine s_iconst O (x := 0) (by decide) dX1_count_78 ?_
      refine s_dr (fun p12 hp13 => ?_)
      subst hp13
      refine x_iast O dX1_count_79 (fun s14 => ?_)
      refine s_iload O 2 rfl dX1_count_80 ?_
      exact s_ireturn O hr rfl dX1_count_82
  · exact Sim.none
theorem mt_X1_count (l : Launch) (G : XG) (hfl : l.stackTraces = false) (hg : G.2.2.2.2 = zAll G.1.1 G.1.2.2.2 G.2.2.2.1) : ∀ (n : Nat) (o : Nat) (x1 : Int32) (x2 : Int32) (x3 : Nat) (s t : XS) (v : Int32) (h : x1_count n o x1 x2 x3 s = some (v, t)), xMet l yX1_count (ws_ yX1_count cX1_count 6 (some .int)) (0 + n) (0 + 25 * n) G (xI s) [.ref o, .int x1, .int x2, .ref x3] (eI v) (xI t) := by
  intro n
  induction n with
  | zero => intro o x1 x2 x3 s t v h; cases h
  | succ n ih =>
    intro o x1 x2 x3 s t v h
    exact xMet_of (E := xI) (enc := eI) (fr := 0 + (n + 1)) (lo := 0 + 25 * (n + 1)) (by decide +kernel) (Nat.le_of_ble_eq_true rfl) (fun X hl hG O hr hm => by subst hl; subst hG; exact wk_X1_count O (fr0 := 0 + n) (lo0 := 0 + 25 * n) ⟨by omega, by omega⟩ ⟨by omega, by omega⟩ hfl hg hr hm (x1_count n) ih o x1 x2 x3 s) h
theorem hd_X0_goesBy : yX0_goesBy.cls ≠ "java/lang/invoke/MethodHandle" ∧ yX0_goesBy.cls ≠ "java/lang/invoke/VarHandle" ∧ (parseMethodDescriptor yX0_goesBy.desc).map (fun d => d.parameters.length) = some 2 := by decide +kernel
theorem hv_X0_goesBy : yX0_goesBy.cls = RX0 ∧ yX0_goesBy.cls ≠ "java/lang/invoke/MethodHandle" ∧ yX0_goesBy.cls ≠ "java/lang/invoke/VarHandle" ∧ (parseMethodDescriptor yX0_goesBy.desc).map (fun d => d.parameters.length) = some 2 := ⟨rfl, hd_X0_goesBy⟩
theorem hu_X0_goesBy : yX0_goesBy.name ≠ "<init>" ∧ (parseMethodDescriptor yX0_goesBy.desc).map (fun d => d.parameters.length) = some 2 := ⟨by decide +kernel, hd_X0_goesBy.2.2⟩
set_option maxHeartbeats 4000000 in
set_option maxRecDepth 100000 in
theorem wk_X0_goesBy {X : XC} (O : XOk X cX0_goesBy RX0 7 175) (hfl : (xL X).stackTraces = false) (hg : (xG X).2.2.2.2 = zAll (xG X).1.1 (xG X).1.2.2.2 (xG X).2.2.2.1) (hr : (xMeth X).sig.returnType = (some .int)) (hm : (xC X).maxLocals = 3) (o : Nat) (x1 : Int32) (x2 : Nat) (s : XS) : Sim X xI (retC X eI xI) 0 [(0, .ref o), (1, .int x1), (2, .ref x2)] [] s (x0_goesBy o x1 x2 s) := by
  have hzz := O.hst
  rw [hg] at hzz
  unfold x0_goesBy
  refine s_aload_n O 0 rfl rfl dX0_goesBy_0 ?_
  refine s_iconst O (x := 0) (by decide) dX0_goesBy_1 ?_
  refine x_put O (ci := 0) (T := TX0) (N := 20) (ty := .int) in_X0 tyX0 tyX0_ok nmX0 rfl 7 (by decide) q238 (fun _ h => h) rfl (by decide +kernel) rfl rfl dX0_goesBy_2 (fun s1 => ?_)
  refine s_aload_n O 0 rfl rfl dX0_goesBy_5 ?_
  refine s_iconst O (x := 0) (by decide) dX0_goesBy_6 ?_
  refine x_put O (ci := 0) (T := TX0) (N := 20) (ty := .int) in_X0 tyX0 tyX0_ok nmX0 rfl 8 (by decide) q239 (fun _ h => h) rfl (by decide +kernel) rfl rfl dX0_goesBy_7 (fun s2 => ?_)
  refine s_aload_n O 0 rfl rfl dX0_goesBy_10 ?_
  refine s_iconst O (x := (-1)) (by decide) dX0_goesBy_11 ?_
  refine x_put O (ci := 0) (T := TX0) (N := 20) (ty := .int) in_X0 tyX0 tyX0_ok nmX0 rfl 9 (by decide) q240 (fun _ h => h) rfl (by decide +kernel) rfl rfl dX0_goesBy_12 (fun s3 => ?_)
  refine s_aload_n O 0 rfl rfl dX0_goesBy_15 ?_
  refine x_get O (ci := 0) (T := TX0) (N := 20) in_X0 rfl 3 (by decide) q234 (fun _ h => h) dX0_goesBy_16 (fun v0 => ?_)
  refine s_vR (fun r4 => ?_)
  refine s_iconst O (x := 0) (by decide) dX0_goesBy_19 ?_
  refine s_iload_n O 1 rfl rfl dX0_goesBy_20 ?_
  refine s_aload_n O 2 rfl rfl dX0_goesBy_21 ?_
  refine s_dr (fun p5 hp6 => ?_)
  subst hp6
  refine x_callV O (enc2 := eI) (ci := 1) (av := [.int 0, .int x1, .ref x2]) (rest := []) 3 (fun v0 t0 h0 => mt_X1_count (xL X) (xG X) hfl hg 6 p5 0 x1 x2 _ t0 v0 h0) (lw_V q1151 q992 q993 q132 q994) hv_X1_count ⟨Nat.le_of_ble_eq_true rfl, Nat.le_of_ble_eq_true rfl⟩ rfl rfl (Nat.le_of_ble_eq_true rfl) dX0_goesBy_22 (fun v7 s8 => ?_)
  exact s_ireturn O hr rfl dX0_goesBy_25
theorem mt_X0_goesBy (l : Launch) (G : XG) (hfl : l.stackTraces = false) (hg : G.2.2.2.2 = zAll G.1.1 G.1.2.2.2 G.2.2.2.1) (o : Nat) (x1 : Int32) (x2 : Nat) (s t : XS) (v : Int32) (h : x0_goesBy o x1 x2 s = some (v, t)) : xMet l yX0_goesBy (ws_ yX0_goesBy cX0_goesBy 3 (some .int)) 7 175 G (xI s) [.ref o, .int x1, .ref x2] (eI v) (xI t) :=
  xMet_of (E := xI) (enc := eI) (by decide +kernel) (Nat.le_of_ble_eq_true rfl) (fun X hl hG O hr hm => by subst hl; subst hG; exact wk_X0_goesBy O hfl hg hr hm o x1 x2 s) h
theorem hd_X0_upTo : yX0_upTo.cls ≠ "java/lang/invoke/MethodHandle" ∧ yX0_upTo.cls ≠ "java/lang/invoke/VarHandle" ∧ (parseMethodDescriptor yX0_upTo.desc).map (fun d => d.parameters.length) = some 1 := by decide +kernel
theorem hv_X0_upTo : yX0_upTo.cls = RX0 ∧ yX0_upTo.cls ≠ "java/lang/invoke/MethodHandle" ∧ yX0_upTo.cls ≠ "java/lang/invoke/VarHandle" ∧ (parseMethodDescriptor yX0_upTo.desc).map (fun d => d.parameters.length) = some 1 := ⟨rfl, hd_X0_upTo⟩
theorem hu_X0_upTo : yX0_upTo.name ≠ "<init>" ∧ (parseMethodDescriptor yX0_upTo.desc).map (fun d => d.parameters.length) = some 1 := ⟨by decide +kernel, hd_X0_upTo.2.2⟩
set_option maxHeartbeats 4000000 in
set_option maxRecDepth 100000 in
theorem wk_X0_upTo {X : XC} (O : XOk X cX0_upTo RX0 2 45) (hfl : (xL X).stackTraces = false) (hg : (xG X).2.2.2.2 = zAll (xG X).1.1 (xG X).1.2.2.2 (xG X).2.2.2.1) (hr : (xMeth X).sig.returnType = (some .int)) (hm : (xC X).maxLocals = 4) (o : Nat) (x1 : Int32) (s : XS) : Sim X xI (retC X eI xI) 0 [(0, .ref o), (1, .int x1)] [] s (x0_upTo o x1 s) := by
  have hzz := O.hst
  rw [hg] at hzz
  unfold x0_upTo
  refine s_iload_n O 1 rfl rfl dX0_upTo_0 ?_
  refine s_callP O (enc2 := eI) (av := [.int x1]) (rest := []) 1 (fun v0 h0 => mt_X0_isDegree (xL X) (xG X) _ x1 v0 h0) (lw_S q920 q921 q131 q922) hd_X0_isDegree ⟨Nat.le_of_ble_eq_true rfl, Nat.le_of_ble_eq_true rfl⟩ rfl (Nat.le_of_ble_eq_true rfl) dX0_upTo_1 (fun v1 => ?_)
  refine s_if_ne O (tgt := 9) dX0_upTo_4 (by decide) ?_ ?_
  · refine s_iconst O (x := 0) (by decide) dX0_upTo_9 ?_
    refine s_istore_n O (L' := [(2, .int 0), (0, .ref o), (1, .int x1)]) hm (by decide) rfl rfl dX0_upTo_10 ?_
    refine s_iconst O (x := 0) (by decide) dX0_upTo_11 ?_
    refine s_istore_n O (L' := [(3, .int 0), (2, .int 0), (0, .ref o), (1, .int x1)]) hm (by decide) rfl rfl dX0_upTo_12 ?_
    refine Sim.sub (L' := [(0, .ref o), (1, .int x1), (2, .int 0), (3, .int 0)]) [2, 3, 1, 0] rfl ?_
    refine s_while (A := Int32 × Int32) (B := Int32) (La := fun a13 => [(0, .ref o), (1, .int x1), (2, .int a13.1), (3, .int a13.2)]) (We := fun b13 s10 => xWX X 35 [(2, .int b13)] [] ((xI) s10)) rfl rfl ?_ ?_
    · intro Cl hn he a13 s3
      unfold x0_upTo_s13
      refine s_iload_n O 3 rfl rfl dX0_upTo_13 ?_
      refine s_iload_n O 1 rfl rfl dX0_upTo_14 ?_
      refine s_icmp_gt O (tgt := 35) dX0_upTo_15 (by decide) ?_ ?_
      · refine Sim.sub (L' := [(2, .int a13.1)]) [2] rfl ?_
        exact Sim.ret (he _ _)
      · refine s_iload_n O 2 rfl rfl dX0_upTo_18 ?_
        refine s_aload_n O 0 rfl rfl dX0_upTo_19 ?_
        refine x_get O (ci := 0) (T := TX0) (N := 20) in_X0 rfl 3 (by decide) q234 (fun _ h => h) dX0_upTo_20 (fun v0 => ?_)
        refine s_vR (fun r4 => ?_)
        refine s_iload_n O 3 rfl rfl dX0_upTo_23 ?_
        refine s_dr (fun p5 hp6 => ?_)
        subst hp6
        refine x_callV O (enc2 := eI) (ci := 1) (av := [.int a13.2]) (rest := [.int a13.1]) 1 (fun v0 t0 h0 => mt_X1_size (xL X) (xG X) hfl hg p5 a13.2 _ t0 v0 h0) (lw_V q984 q985 q986 q132 q987) hv_X1_size ⟨Nat.le_of_ble_eq_true rfl, Nat.le_of_ble_eq_true rfl⟩ rfl rfl (Nat.le_of_ble_eq_true rfl) dX0_upTo_24 (fun v7 s8 => ?_)
        refine s_iadd O dX0_upTo_27 ?_
        refine s_nmi fun u9 => ?_
        refine s_istore_n O (L' := [(2, .int u9), (0, .ref o), (1, .int x1), (3, .int a13.2)]) hm (by decide) rfl rfl dX0_upTo_28 ?_
        refine s_iinc O (y := (a13.2 + 1)) (L' := [(3, .int (a13.2 + 1)), (2, .int u9), (0, .ref o), (1, .int x1)]) 3 rfl hm (by decide) rfl rfl dX0_upTo_29 ?_
        refine s_goto O (tgt := 13) dX0_upTo_32 (by decide) ?_
        refine Sim.sub (L' := [(0, .ref o), (1, .int x1), (2, .int u9), (3, .int (a13.2 + 1))]) [2, 3, 1, 0] rfl ?_
        exact Sim.ret (hn _ _)
    · intro b13 s10
      show Sim X (xI) (retC X eI xI) 35 [(2, .int b13)] [] s10 _
      refine s_iload_n O 0 rfl rfl dX0_upTo_35 ?_
      exact s_ireturn O hr rfl dX0_upTo_36
  · refine s_iconst O (x := (-1)) (by decide) dX0_upTo_7 ?_
    exact s_ireturn O hr rfl dX0_upTo_8
theorem mt_X0_upTo (l : Launch) (G : XG) (hfl : l.stackTraces = false) (hg : G.2.2.2.2 = zAll G.1.1 G.1.2.2.2 G.2.2.2.1) (o : Nat) (x1 : Int32) (s t : XS) (v : Int32) (h : x0_upTo o x1 s = some (v, t)) : xMet l yX0_upTo (ws_ yX0_upTo cX0_upTo 4 (some .int)) 2 45 G (xI s) [.ref o, .int x1] (eI v) (xI t) :=
  xMet_of (E := xI) (enc := eI) (by decide +kernel) (Nat.le_of_ble_eq_true rfl) (fun X hl hG O hr hm => by subst hl; subst hG; exact wk_X0_upTo O hfl hg hr hm o x1 s) h
theorem hd_X0_degreeOf : yX0_degreeOf.cls ≠ "java/lang/invoke/MethodHandle" ∧ yX0_degreeOf.cls ≠ "java/lang/invoke/VarHandle" ∧ (parseMethodDescriptor yX0_degreeOf.desc).map (fun d => d.parameters.length) = some 1 := by decide +kernel
theorem hv_X0_degreeOf : yX0_degreeOf.cls = RX0 ∧ yX0_degreeOf.cls ≠ "java/lang/invoke/MethodHandle" ∧ yX0_degreeOf.cls ≠ "java/lang/invoke/VarHandle" ∧ (parseMethodDescriptor yX0_degreeOf.desc).map (fun d => d.parameters.length) = some 1 := ⟨rfl, hd_X0_degreeOf⟩
theorem hu_X0_degreeOf : yX0_degreeOf.name ≠ "<init>" ∧ (parseMethodDescriptor yX0_degreeOf.desc).map (fun d => d.parameters.length) = some 1 := ⟨by decide +kernel, hd_X0_degreeOf.2.2⟩
set_option maxHeartbeats 4000000 in
set_option maxRecDepth 100000 in
theorem wk_X0_degreeOf {X : XC} (O : XOk X cX0_degreeOf RX0 1 60) (hfl : (xL X).stackTraces = false) (hg : (xG X).2.2.2.2 = zAll (xG X).1.1 (xG X).1.2.2.2 (xG X).2.2.2.1) (hr : (xMeth X).sig.returnType = (some .int)) (hm : (xC X).maxLocals = 5) (x0 : Nat) (s : XS) : Sim X xI (retC X eI xI) 0 [(0, .ref x0)] [] s (x0_degreeOf x0 s) := by
  have hzz := O.hst
  rw [hg] at hzz
  unfold x0_degreeOf
  refine s_aload_n O 0 rfl rfl dX0_degreeOf_0 ?_
  refine x_alen O dX0_degreeOf_1 (fun u1 => ?_)
  refine x_newL O q1015 dX0_degreeOf_2 (fun p2 s3 => ?_)
  refine s_astore_n O (L' := [(1, .ref p2), (0, .ref x0)]) hm (by decide) rfl rfl dX0_degreeOf_4 ?_
  refine s_aload_n O 1 rfl rfl dX0_degreeOf_5 ?_
  refine s_iconst O (x := 0) (by decide) dX0_degreeOf_6 ?_
  refine s_aload_n O 0 rfl rfl dX0_degreeOf_7 ?_
  refine s_iconst O (x := 0) (by decide) dX0_degreeOf_8 ?_
  refine s_aload_n O 0 rfl rfl dX0_degreeOf_9 ?_
  refine x_alen O dX0_degreeOf_10 (fun u4 => ?_)
  refine x_acL O q1163 q459 q458 q145 ⟨Nat.le_of_ble_eq_true rfl, by decide⟩ (Nat.le_of_ble_eq_true rfl) dX0_degreeOf_11 (fun s5 => ?_)
  refine s_iconst O (x := (-1)) (by decide) dX0_degreeOf_14 ?_
  refine s_istore_n O (L' := [(2, .int (-1)), (1, .ref p2), (0, .ref x0)]) hm (by decide) rfl rfl dX0_degreeOf_15 ?_
  refine s_iconst O (x := 0) (by decide) dX0_degreeOf_16 ?_
  refine s_istore_n O (L' := [(3, .int 0), (2, .int (-1)), (1, .ref p2), (0, .ref x0)]) hm (by decide) rfl rfl dX0_degreeOf_17 ?_
  refine Sim.sub (L' := [(1, .ref p2), (2, .int (-1)), (3, .int 0)]) [2, 1, 0] rfl ?_
  refine s_while (A := Int32 × Int32) (B := Int32) (La := fun a18 => [(1, .ref p2), (2, .int a18.1), (3, .int a18.2)]) (We := fun b18 s16 => xWX X 75 [(2, .int b18)] [] ((xI) s16)) rfl rfl ?_ ?_
  · intro Cl hn he a18 s6
    unfold x0_degreeOf_s18
    have hj34 : ∀ (x2_34 : Int32) (x3_34 : Int32) (s9 : XS), Sim X (xI) Cl 34 [(1, .ref p2), (2, .int x2_34), (3, .int x3_34)] [] s9 (x0_degreeOf_j34 p2 x2_34 x3_34 s9) := by
      intro x2_34 x3_34 s9
      unfold x0_degreeOf_j34
      refine s_iconst O (x := 0) (by decide) dX0_degreeOf_34 ?_
      refine s_istore O (L' := [(4, .int 0), (1, .ref p2), (2, .int x2_34), (3, .int x3_34)]) hm (by decide) rfl dX0_degreeOf_35 ?_
      refine Sim.sub (L' := [(1, .ref p2), (2, .int x2_34), (3, .int x3_34), (4, .int 0)]) [1, 2, 3, 0] rfl ?_
      refine s_while (A := Int32) (B := Unit) (La := fun a37 => [(1, .ref p2), (2, .int x2_34), (3, .int x3_34), (4, .int a37)]) (We := fun b37 s15 => xWX X 69 [(1, .ref p2), (2, .int x2_34), (3, .int x3_34)] [] ((xI) s15)) rfl rfl ?_ ?_
      · intro Cl hn he a37 s10
        unfold x0_degreeOf_s37
        refine s_iload O 3 rfl dX0_degreeOf_37 ?_
        refine s_iconst O (x := 1) (by decide) dX0_degreeOf_39 ?_
        refine s_iadd O dX0_degreeOf_40 ?_
        refine s_aload_n O 0 rfl rfl dX0_degreeOf_41 ?_
        refine x_alen O dX0_degreeOf_42 (fun u11 => ?_)
        refine s_iload_n O 2 rfl rfl dX0_degreeOf_43 ?_
        refine s_isub O dX0_degreeOf_44 ?_
        refine s_icmp_ge O (tgt := 69) dX0_degreeOf_45 (by decide) ?_ ?_
        · refine Sim.sub (L' := [(1, .ref p2), (2, .int x2_34), (3, .int x3_34)]) [0, 1, 2] rfl ?_
          exact Sim.ret (he _ _)
        · refine s_aload_n O 0 rfl rfl dX0_degreeOf_48 ?_
          refine s_iload O 3 rfl dX0_degreeOf_49 ?_
          refine s_aload_n O 0 rfl rfl dX0_degreeOf_51 ?_
          refine s_iload O 3 rfl dX0_degreeOf_52 ?_
          refine s_iconst O (x := 1) (by decide) dX0_degreeOf_54 ?_
          refine s_iadd O dX0_degreeOf_55 ?_
          refine x_lald O dX0_degreeOf_56 (fun w12 => ?_)
          refine s_aload_n O 0 rfl rfl dX0_degreeOf_57 ?_
          refine s_iload O 3 rfl dX0_degreeOf_58 ?_
          refine x_lald O dX0_degreeOf_60 (fun w13 => ?_)
          refine s_lsub O dX0_degreeOf_61 ?_
          refine x_last O dX0_degreeOf_62 (fun s14 => ?_)
          refine s_iinc O (y := (a37 + 1)) (L' := [(4, .int (a37 + 1)), (1, .ref p2), (2, .int x2_34), (3, .int x3_34)]) 3 rfl hm (by decide) rfl rfl dX0_degreeOf_63 ?_
          refine s_goto O (tgt := 37) dX0_degreeOf_66 (by decide) ?_
          refine Sim.sub (L' := [(1, .ref p2), (2, .int x2_34), (3, .int x3_34), (4, .int (a37 + 1))]) [1, 2, 3, 0] rfl ?_
          exact Sim.ret (hn _ _)
      · intro b37 s15
        show Sim X (xI) Cl 69 [(1, .ref p2), (2, .int x2_34), (3, .int x3_34)] [] s15 _
        refine s_iinc O (y := (x3_34 + 1)) (L' := [(3, .int (x3_34 + 1)), (1, .ref p2), (2, .int x2_34)]) 2 rfl hm (by decide) rfl rfl dX0_degreeOf_69 ?_
        refine s_goto O (tgt := 18) dX0_degreeOf_72 (by decide) ?_
        refine Sim.sub (L' := [(1, .ref p2), (2, .int x2_34), (3, .int (x3_34 + 1))]) [1, 2, 0] rfl ?_
        exact Sim.ret (hn _ _)
    refine s_iload_n O 2 rfl rfl dX0_degreeOf_18 ?_
    refine s_aload_n O 0 rfl rfl dX0_degreeOf_19 ?_
    refine x_alen O dX0_degreeOf_20 (fun u7 => ?_)
    refine s_icmp_ge O (tgt := 75) dX0_degreeOf_21 (by decide) ?_ ?_
    · refine Sim.sub (L' := [(2, .int a18.1)]) [1] rfl ?_
      exact Sim.ret (he _ _)
    · refine s_aload_n O 0 rfl rfl dX0_degreeOf_24 ?_
      refine s_iconst O (x := 0) (by decide) dX0_degreeOf_25 ?_
      refine x_lald O dX0_degreeOf_26 (fun w8 => ?_)
      refine s_lconst O (x := 0) (by decide) dX0_degreeOf_27 ?_
      refine s_lcmp_eq O (tgt := 34) dX0_degreeOf_28 dX0_degreeOf_29 (by decide) ?_ ?_
      · exact hj34 a18.1 a18.2 _
      · refine s_iload_n O 2 rfl rfl dX0_degreeOf_32 ?_
        refine s_istore_n O (L' := [(2, .int a18.2), (1, .ref p2), (3, .int a18.2)]) hm (by decide) rfl rfl dX0_degreeOf_33 ?_
        refine Sim.sub (L' := [(1, .ref p2), (2, .int a18.2), (3, .int a18.2)]) [1, 0, 2] rfl ?_
        exact hj34 a18.2 a18.2 _
  · intro b18 s16
    show Sim X (xI) (retC X eI xI) 75 [(2, .int b18)] [] s16 _
    refine s_iload_n O 0 rfl rfl dX0_degreeOf_75 ?_
    exact s_ireturn O hr rfl dX0_degreeOf_76
theorem mt_X0_degreeOf (l : Launch) (G : XG) (hfl : l.stackTraces = false) (hg : G.2.2.2.2 = zAll G.1.1 G.1.2.2.2 G.2.2.2.1) (x0 : Nat) (s t : XS) (v : Int32) (h : x0_degreeOf x0 s = some (v, t)) : xMet l yX0_degreeOf (ws_ yX0_degreeOf cX0_degreeOf 5 (some .int)) 1 60 G (xI s) [.ref x0] (eI v) (xI t) :=
  xMet_of (E := xI) (enc := eI) (by decide +kernel) (Nat.le_of_ble_eq_true rfl) (fun X hl hG O hr hm => by subst hl; subst hG; exact wk_X0_degreeOf O hfl hg hr hm x0 s) h
theorem hd_X0_polyWays : yX0_polyWays.cls ≠ "java/lang/invoke/MethodHandle" ∧ yX0_polyWays.cls ≠ "java/lang/invoke/VarHandle" ∧ (parseMethodDescriptor yX0_polyWays.desc).map (fun d => d.parameters.length) = some 2 := by decide +kernel
set_option maxHeartbeats 4000000 in
set_option maxRecDepth 100000 in
theorem wk_X0_polyWays {X : XC} {w0 : XS} (O : XOk X cX0_polyWays RX0 0 0) (hr : (xMeth X).sig.returnType = some .long) (hm : (xC X).maxLocals = 6) (x0 : Int64) (x2 : Int32) (s : Unit) : Sim X (fun _ : Unit => w0) (retC X eL (fun _ : Unit => w0)) 0 [(0, .long x0), (2, .int x2)] [] s (x0_polyWays x0 x2 s) := by
  unfold x0_polyWays
  refine s_lconst O (x := 1) (by decide) dX0_polyWays_0 ?_
  refine s_lstore_n O (L' := [(3, .long 1), (0, .long x0), (2, .int x2)]) hm (by decide) rfl rfl dX0_polyWays_1 ?_
  refine s_iconst O (x := 0) (by decide) dX0_polyWays_2 ?_
  refine s_istore O (L' := [(5, .int 0), (3, .long 1), (0, .long x0), (2, .int x2)]) hm (by decide) rfl dX0_polyWays_3 ?_
  refine Sim.sub (L' := [(0, .long x0), (2, .int x2), (3, .long 1), (5, .int 0)]) [2, 3, 1, 0] rfl ?_
  refine s_while (A := Int64 × Int32) (B := Int64) (La := fun a5 => [(0, .long x0), (2, .int x2), (3, .long a5.1), (5, .int a5.2)]) (We := fun b5 s3 => xWX X 25 [(2, .int x2), (3, .long b5)] [] ((fun _ : Unit => w0) s3)) rfl rfl ?_ ?_
  · intro Cl hn he a5 s1
    unfold x0_polyWays_s5
    refine s_iload O 3 rfl dX0_polyWays_5 ?_
    refine s_iload_n O 1 rfl rfl dX0_polyWays_7 ?_
    refine s_icmp_ge O (tgt := 25) dX0_polyWays_8 (by decide) ?_ ?_
    · refine Sim.sub (L' := [(2, .int x2), (3, .long a5.1)]) [1, 2] rfl ?_
      exact Sim.ret (he _ _)
    · refine s_lload_n O 2 rfl rfl dX0_polyWays_11 ?_
      refine s_lload_n O 0 rfl rfl dX0_polyWays_12 ?_
      refine s_iload O 3 rfl dX0_polyWays_13 ?_
      refine s_i2l O dX0_polyWays_15 ?_
      refine s_lsub O dX0_polyWays_16 ?_
      refine s_lmul O dX0_polyWays_17 ?_
      refine s_nml fun w2 => ?_
      refine s_lstore_n O (L' := [(3, .long w2), (0, .long x0), (2, .int x2), (5, .int a5.2)]) hm (by decide) rfl rfl dX0_polyWays_18 ?_
      refine s_iinc O (y := (a5.2 + 1)) (L' := [(5, .int (a5.2 + 1)), (3, .long w2), (0, .long x0), (2, .int x2)]) 3 rfl hm (by decide) rfl rfl dX0_polyWays_19 ?_
      refine s_goto O (tgt := 5) dX0_polyWays_22 (by decide) ?_
      refine Sim.sub (L' := [(0, .long x0), (2, .int x2), (3, .long w2), (5, .int (a5.2 + 1))]) [2, 3, 1, 0] rfl ?_
      exact Sim.ret (hn _ _)
  · intro b5 s3
    show Sim X (fun _ : Unit => w0) (retC X eL (fun _ : Unit => w0)) 25 [(2, .int x2), (3, .long b5)] [] s3 _
    refine s_iconst O (x := 2) (by decide) dX0_polyWays_25 ?_
    refine s_istore O (L' := [(5, .int 2), (2, .int x2), (3, .long b5)]) hm (by decide) rfl dX0_polyWays_26 ?_
    refine Sim.sub (L' := [(2, .int x2), (3, .long b5), (5, .int 2)]) [1, 2, 0] rfl ?_
    refine s_while (A := Int64 × Int32) (B := Int64) (La := fun a28 => [(2, .int x2), (3, .long a28.1), (5, .int a28.2)]) (We := fun b28 s6 => xWX X 46 [(3, .long b28)] [] ((fun _ : Unit => w0) s6)) rfl rfl ?_ ?_
    · intro Cl hn he a28 s4
      unfold x0_polyWays_s28
      refine s_iload O 2 rfl dX0_polyWays_28 ?_
      refine s_iload_n O 0 rfl rfl dX0_polyWays_30 ?_
      refine s_icmp_gt O (tgt := 46) dX0_polyWays_31 (by decide) ?_ ?_
      · refine Sim.sub (L' := [(3, .long a28.1)]) [1] rfl ?_
        exact Sim.ret (he _ _)
      · refine s_lload_n O 1 rfl rfl dX0_polyWays_34 ?_
        refine s_iload O 2 rfl dX0_polyWays_35 ?_
        refine s_i2l O dX0_polyWays_37 ?_
        refine s_ldiv O dX0_polyWays_38 ?_
        refine s_nml fun w5 => ?_
        refine s_lstore_n O (L' := [(3, .long w5), (2, .int x2), (5, .int a28.2)]) hm (by decide) rfl rfl dX0_polyWays_39 ?_
        refine s_iinc O (y := (a28.2 + 1)) (L' := [(5, .int (a28.2 + 1)), (3, .long w5), (2, .int x2)]) 2 rfl hm (by decide) rfl rfl dX0_polyWays_40 ?_
        refine s_goto O (tgt := 28) dX0_polyWays_43 (by decide) ?_
        refine Sim.sub (L' := [(2, .int x2), (3, .long w5), (5, .int (a28.2 + 1))]) [2, 1, 0] rfl ?_
        exact Sim.ret (hn _ _)
    · intro b28 s6
      show Sim X (fun _ : Unit => w0) (retC X eL (fun _ : Unit => w0)) 46 [(3, .long b28)] [] s6 _
      refine s_lload_n O 0 rfl rfl dX0_polyWays_46 ?_
      exact s_lreturn O hr rfl dX0_polyWays_47
theorem mt_X0_polyWays (l : Launch) (G : XG) (w0 : XS) (x0 : Int64) (x2 : Int32) (v : Int64) (h : x0_polyWays x0 x2 () = some (v, ())) : xMet l yX0_polyWays (ws_ yX0_polyWays cX0_polyWays 6 (some .long)) 0 0 G w0 [.long x0, .int x2] (eL v) w0 :=
  xMet_of (E := fun _ : Unit => w0) (enc := eL) (t := ()) (by decide +kernel) (Nat.le_of_ble_eq_true rfl) (fun X hl hG O hr hm => wk_X0_polyWays O hr hm x0 x2 ()) h
theorem hd_X0_term : yX0_term.cls ≠ "java/lang/invoke/MethodHandle" ∧ yX0_term.cls ≠ "java/lang/invoke/VarHandle" ∧ (parseMethodDescriptor yX0_term.desc).map (fun d => d.parameters.length) = some 1 := by decide +kernel
theorem hv_X0_term : yX0_term.cls = RX0 ∧ yX0_term.cls ≠ "java/lang/invoke/MethodHandle" ∧ yX0_term.cls ≠ "java/lang/invoke/VarHandle" ∧ (parseMethodDescriptor yX0_term.desc).map (fun d => d.parameters.length) = some 1 := ⟨rfl, hd_X0_term⟩
theorem hu_X0_term : yX0_term.name ≠ "<init>" ∧ (parseMethodDescriptor yX0_term.desc).map (fun d => d.parameters.length) = some 1 := ⟨by decide +kernel, hd_X0_term.2.2⟩
set_option maxHeartbeats 4000000 in
set_option maxRecDepth 100000 in
theorem wk_X0_term {X : XC} (O : XOk X cX0_term RX0 3 84) (hfl : (xL X).stackTraces = false) (hg : (xG X).2.2.2.2 = zAll (xG X).1.1 (xG X).1.2.2.2 (xG X).2.2.2.1) (hr : (xMeth X).sig.returnType = (some .int)) (hm : (xC X).maxLocals = 6) (o : Nat) (x1 : Int32) (s : XS) : Sim X xI (retC X eI xI) 0 [(0, .ref o), (1, .int x1)] [] s (x0_term o x1 s) := by
  have hzz := O.hst
  rw [hg] at hzz
  unfold x0_term
  refine s_iload_n O 1 rfl rfl dX0_term_0 ?_
  refine s_iconst O (x := (-1)) (by decide) dX0_term_1 ?_
  refine s_icmp_lt O (tgt := 12) dX0_term_2 (by decide) ?_ ?_
  · refine s_iconst O (x := (-1)) (by decide) dX0_term_12 ?_
    exact s_ireturn O hr rfl dX0_term_13
  · refine s_iload_n O 1 rfl rfl dX0_term_5 ?_
    refine s_sipush O (x := 1000) (by decide) dX0_term_6 ?_
    refine s_icmp_lt O (tgt := 14) dX0_term_9 (by decide) ?_ ?_
    · refine s_iconst O (x := 4) (by decide) dX0_term_14 ?_
      refine x_newL O q1015 dX0_term_15 (fun p1 s2 => ?_)
      refine s_astore_n O (L' := [(2, .ref p1), (0, .ref o), (1, .int x1)]) hm (by decide) rfl rfl dX0_term_17 ?_
      refine s_iconst O (x := 0) (by decide) dX0_term_18 ?_
      refine s_istore_n O (L' := [(3, .int 0), (2, .ref p1), (0, .ref o), (1, .int x1)]) hm (by decide) rfl rfl dX0_term_19 ?_
      refine Sim.sub (L' := [(0, .ref o), (1, .int x1), (2, .ref p1), (3, .int 0)]) [2, 3, 1, 0] rfl ?_
      refine s_while (A := Int32) (B := Unit) (La := fun a20 => [(0, .ref o), (1, .int x1), (2, .ref p1), (3, .int a20)]) (We := fun b20 s10 => xWX X 42 [(1, .int x1), (2, .ref p1)] [] ((xI) s10)) rfl rfl ?_ ?_
      · intro Cl hn he a20 s3
        unfold x0_term_s20
        refine s_iload_n O 3 rfl rfl dX0_term_20 ?_
        refine s_iconst O (x := 4) (by decide) dX0_term_21 ?_
        refine s_icmp_ge O (tgt := 42) dX0_term_22 (by decide) ?_ ?_
        · refine Sim.sub (L' := [(1, .int x1), (2, .ref p1)]) [1, 2] rfl ?_
          exact Sim.ret (he _ _)
        · refine s_aload_n O 2 rfl rfl dX0_term_25 ?_
          refine s_iload_n O 3 rfl rfl dX0_term_26 ?_
          refine s_aload_n O 0 rfl rfl dX0_term_27 ?_
          refine x_get O (ci := 0) (T := TX0) (N := 20) in_X0 rfl 3 (by decide) q234 (fun _ h => h) dX0_term_28 (fun v0 => ?_)
          refine s_vR (fun r4 => ?_)
          refine s_iload_n O 3 rfl rfl dX0_term_31 ?_
          refine s_dr (fun p5 hp6 => ?_)
          subst hp6
          refine x_callV O (enc2 := eL) (ci := 1) (av := [.int a20]) (rest := [.int a20, .ref p1]) 1 (fun v0 t0 h0 => mt_X1_poly (xL X) (xG X) hfl hg p5 a20 _ t0 v0 h0) (lw_V q1005 q1006 q1007 q132 q1008) hv_X1_poly ⟨Nat.le_of_ble_eq_true rfl, Nat.le_of_ble_eq_true rfl⟩ rfl rfl (Nat.le_of_ble_eq_true rfl) dX0_term_32 (fun v7 s8 => ?_)
          refine x_last O dX0_term_35 (fun s9 => ?_)
          refine s_iinc O (y := (a20 + 1)) (L' := [(3, .int (a20 + 1)), (0, .ref o), (1, .int x1), (2, .ref p1)]) 3 rfl hm (by decide) rfl rfl dX0_term_36 ?_
          refine s_goto O (tgt := 20) dX0_term_39 (by decide) ?_
          refine Sim.sub (L' := [(0, .ref o), (1, .int x1), (2, .ref p1), (3, .int (a20 + 1))]) [1, 2, 3, 0] rfl ?_
          exact Sim.ret (hn _ _)
      · intro b20 s10
        show Sim X (xI) (retC X eI xI) 42 [(1, .int x1), (2, .ref p1)] [] s10 _
        refine s_iconst O (x := 0) (by decide) dX0_term_42 ?_
        refine s_istore_n O (L' := [(3, .int 0), (1, .int x1), (2, .ref p1)]) hm (by decide) rfl rfl dX0_term_43 ?_
        refine s_aload_n O 2 rfl rfl dX0_term_44 ?_
        refine x_callS O (enc2 := eI) (av := [.ref p1]) (rest := []) 1 (fun v0 t0 h0 => mt_X0_degreeOf (xL X) (xG X) hfl hg p1 _ t0 v0 h0) (lw_S q1160 q1161 q131 q1162) hd_X0_degreeOf ⟨Nat.le_of_ble_eq_true rfl, Nat.le_of_ble_eq_true rfl⟩ rfl (Nat.le_of_ble_eq_true rfl) dX0_term_45 (fun v11 s12 => ?_)
        refine s_istore O (L' := [(4, .int v11), (3, .int 0), (1, .int x1), (2, .ref p1)]) hm (by decide) rfl dX0_term_48 ?_
        refine Sim.sub (L' := [(1, .int x1), (2, .ref p1), (3, .int 0), (4, .int v11)]) [2, 3, 1, 0] rfl ?_
        refine s_while (A := Int32 × Int32) (B := (Int32) ⊕ ((Unit) ⊕ (Int32))) (La := fun a50 => [(1, .int x1), (2, .ref p1), (3, .int a50.1), (4, .int a50.2)]) (We := fun bb0 s22 => match bb0 with | .inl b50 => xWX X 61 [(4, .int b50)] [] ((xI) s22) | .inr (.inl b50) => xWX X 71 [(1, .int x1)] [] ((xI) s22) | .inr (.inr b50) => xWX X 130 [(1, .int x1), (3, .int b50)] [] ((xI) s22)) rfl rfl ?_ ?_
        · intro Cl hn he a50 s13
          unfold x0_term_s50
          refine s_iload O 3 rfl dX0_term_50 ?_
          refine s_iconst O (x := (-1)) (by decide) dX0_term_52 ?_
          refine s_icmp_eq O (tgt := 130) dX0_term_53 (by decide) ?_ ?_
          · refine Sim.sub (L' := [(1, .int x1), (3, .int a50.1)]) [0, 2] rfl ?_
            exact Sim.ret (he _ _)
          · refine s_iload_n O 2 rfl rfl dX0_term_56 ?_
            refine s_iload_n O 0 rfl rfl dX0_term_57 ?_
            refine s_icmp_ne O (tgt := 64) dX0_term_58 (by decide) ?_ ?_
            · refine s_iload_n O 2 rfl rfl dX0_term_64 ?_
              refine s_sipush O (x := 1000) (by decide) dX0_term_65 ?_
              refine s_icmp_ne O (tgt := 83) dX0_term_68 (by decide) ?_ ?_
              · refine s_iconst O (x := 0) (by decide) dX0_term_83 ?_
                refine s_istore O (L' := [(5, .int 0), (1, .int x1), (2, .ref p1), (3, .int a50.1), (4, .int a50.2)]) hm (by decide) rfl dX0_term_84 ?_
                refine Sim.sub (L' := [(1, .int x1), (2, .ref p1), (3, .int a50.1), (4, .int a50.2), (5, .int 0)]) [1, 2, 3, 4, 0] rfl ?_
                refine s_while (A := Int32) (B := Unit) (La := fun a86 => [(1, .int x1), (2, .ref p1), (3, .int a50.1), (4, .int a50.2), (5, .int a86)]) (We := fun b86 s19 => xWX X 118 [(1, .int x1), (2, .ref p1), (3, .int a50.1)] [] ((xI) s19)) rfl rfl ?_ ?_
                · intro Cl hn he a86 s14
                  unfold x0_term_s86
                  refine s_iload O 4 rfl dX0_term_86 ?_
                  refine s_iconst O (x := 4) (by decide) dX0_term_88 ?_
                  refine s_icmp_ge O (tgt := 118) dX0_term_89 (by decide) ?_ ?_
                  · refine Sim.sub (L' := [(1, .int x1), (2, .ref p1), (3, .int a50.1)]) [0, 1, 2] rfl ?_
                    exact Sim.ret (he _ _)
                  · refine s_aload_n O 1 rfl rfl dX0_term_92 ?_
                    refine s_iload O 4 rfl dX0_term_93 ?_
                    refine s_dup2 O rfl rfl dX0_term_95 ?_
                    refine x_lald O dX0_term_96 (fun w15 => ?_)
                    refine s_iload O 4 rfl dX0_term_97 ?_
                    refine s_iload O 3 rfl dX0_term_99 ?_
                    refine s_iadd O dX0_term_101 ?_
                    refine s_iload_n O 2 rfl rfl dX0_term_102 ?_
                    refine s_isub O dX0_term_103 ?_
                    refine s_i2l O dX0_term_104 ?_
                    refine s_iload O 3 rfl dX0_term_105 ?_
                    refine s_callP O (enc2 := eL) (av := [.long (((a86 + a50.2) - a50.1).toInt64), .int a50.2]) (rest := [.long w15, .int a86, .ref p1]) 2 (fun v0 h0 => mt_X0_polyWays (xL X) (xG X) _ (((a86 + a50.2) - a50.1).toInt64) a50.2 v0 h0) (lw_S q1164 q1165 q131 q1166) hd_X0_polyWays ⟨Nat.le_of_ble_eq_true rfl, Nat.le_of_ble_eq_true rfl⟩ rfl (Nat.le_of_ble_eq_true rfl) dX0_term_107 (fun v16 => ?_)
                    refine s_lsub O dX0_term_110 ?_
                    refine x_last O dX0_term_111 (fun s18 => ?_)
                    refine s_iinc O (y := (a86 + 1)) (L' := [(5, .int (a86 + 1)), (1, .int x1), (2, .ref p1), (3, .int a50.1), (4, .int a50.2)]) 4 rfl hm (by decide) rfl rfl dX0_term_112 ?_
                    refine s_goto O (tgt := 86) dX0_term_115 (by decide) ?_
                    refine Sim.sub (L' := [(1, .int x1), (2, .ref p1), (3, .int a50.1), (4, .int a50.2), (5, .int (a86 + 1))]) [1, 2, 3, 4, 0] rfl ?_
                    exact Sim.ret (hn _ _)
                · intro b86 s19
                  show Sim X (xI) Cl 118 [(1, .int x1), (2, .ref p1), (3, .int a50.1)] [] s19 _
                  refine s_iinc O (y := (a50.1 + 1)) (L' := [(3, .int (a50.1 + 1)), (1, .int x1), (2, .ref p1)]) 2 rfl hm (by decide) rfl rfl dX0_term_118 ?_
                  refine s_aload_n O 2 rfl rfl dX0_term_121 ?_
                  refine x_callS O (enc2 := eI) (av := [.ref p1]) (rest := []) 1 (fun v0 t0 h0 => mt_X0_degreeOf (xL X) (xG X) hfl hg p1 _ t0 v0 h0) (lw_S q1160 q1161 q131 q1162) hd_X0_degreeOf ⟨Nat.le_of_ble_eq_true rfl, Nat.le_of_ble_eq_true rfl⟩ rfl (Nat.le_of_ble_eq_true rfl) dX0_term_122 (fun v20 s21 => ?_)
                  refine s_istore O (L' := [(4, .int v20), (3, .int (a50.1 + 1)), (1, .int x1), (2, .ref p1)]) hm (by decide) rfl dX0_term_125 ?_
                  refine s_goto O (tgt := 50) dX0_term_127 (by decide) ?_
                  refine Sim.sub (L' := [(1, .int x1), (2, .ref p1), (3, .int (a50.1 + 1)), (4, .int v20)]) [2, 3, 1, 0] rfl ?_
                  exact Sim.ret (hn _ _)
              · refine Sim.sub (L' := [(1, .int x1)]) [0] rfl ?_
                exact Sim.ret (he _ _)
            · refine Sim.sub (L' := [(4, .int a50.2)]) [3] rfl ?_
              exact Sim.ret (he _ _)
        · intro bb0 s22
          rcases bb0 with b50 | b50 | b50
          · show Sim X (xI) (retC X eI xI) 61 [(4, .int b50)] [] s22 _
            dsimp only
            refine s_iload O 0 rfl dX0_term_61 ?_
            exact s_ireturn O hr rfl dX0_term_63
          · show Sim X (xI) (retC X eI xI) 71 [(1, .int x1)] [] s22 _
            dsimp only
            refine s_iload_n O 0 rfl rfl dX0_term_71 ?_
            refine s_iconst O (x := (-1)) (by decide) dX0_term_72 ?_
            refine s_icmp_ne O (tgt := 81) dX0_term_73 (by decide) ?_ ?_
            · refine s_iconst O (x := (-1)) (by decide) dX0_term_81 ?_
              exact s_ireturn O hr rfl dX0_term_82
            · refine s_bipush O (x := (-2)) (by decide) dX0_term_76 ?_
              refine s_goto O (tgt := 82) dX0_term_78 (by decide) ?_
              exact s_ireturn O hr rfl dX0_term_82
          · show Sim X (xI) (retC X eI xI) 130 [(1, .int x1), (3, .int b50)] [] s22 _
            dsimp only
            refine s_iload_n O 0 rfl rfl dX0_term_130 ?_
            refine s_iconst O (x := (-1)) (by decide) dX0_term_131 ?_
            refine s_icmp_ne O (tgt := 139) dX0_term_132 (by decide) ?_ ?_
            · refine s_iconst O (x := (-1)) (by decide) dX0_term_139 ?_
              exact s_ireturn O hr rfl dX0_term_140
            · refine s_iload_n O 1 rfl rfl dX0_term_135 ?_
              refine s_goto O (tgt := 140) dX0_term_136 (by decide) ?_
              exact s_ireturn O hr rfl dX0_term_140
    · refine s_iconst O (x := (-1)) (by decide) dX0_term_12 ?_
      exact s_ireturn O hr rfl dX0_term_13
theorem mt_X0_term (l : Launch) (G : XG) (hfl : l.stackTraces = false) (hg : G.2.2.2.2 = zAll G.1.1 G.1.2.2.2 G.2.2.2.1) (o : Nat) (x1 : Int32) (s t : XS) (v : Int32) (h : x0_term o x1 s = some (v, t)) : xMet l yX0_term (ws_ yX0_term cX0_term 6 (some .int)) 3 84 G (xI s) [.ref o, .int x1] (eI v) (xI t) :=
  xMet_of (E := xI) (enc := eI) (by decide +kernel) (Nat.le_of_ble_eq_true rfl) (fun X hl hG O hr hm => by subst hl; subst hG; exact wk_X0_term O hfl hg hr hm o x1 s) h
theorem hd_X0_corner : yX0_corner.cls ≠ "java/lang/invoke/MethodHandle" ∧ yX0_corner.cls ≠ "java/lang/invoke/VarHandle" ∧ (parseMethodDescriptor yX0_corner.desc).map (fun d => d.parameters.length) = some 2 := by decide +kernel
theorem hv_X0_corner : yX0_corner.cls = RX0 ∧ yX0_corner.cls ≠ "java/lang/invoke/MethodHandle" ∧ yX0_corner.cls ≠ "java/lang/invoke/VarHandle" ∧ (parseMethodDescriptor yX0_corner.desc).map (fun d => d.parameters.length) = some 2 := ⟨rfl, hd_X0_corner⟩
theorem hu_X0_corner : yX0_corner.name ≠ "<init>" ∧ (parseMethodDescriptor yX0_corner.desc).map (fun d => d.parameters.length) = some 2 := ⟨by decide +kernel, hd_X0_corner.2.2⟩
set_option maxHeartbeats 4000000 in
set_option maxRecDepth 100000 in
theorem wk_X0_corner {X : XC} (O : XOk X cX0_corner RX0 1 25) (hfl : (xL X).stackTraces = false) (hg : (xG X).2.2.2.2 = zAll (xG X).1.1 (xG X).1.2.2.2 (xG X).2.2.2.1) (hr : (xMeth X).sig.returnType = (some .int)) (hm : (xC X).maxLocals = 4) (o : Nat) (x1 : Int32) (x2 : Int32) (s : XS) : Sim X xI (retC X eI xI) 0 [(0, .ref o), (1, .int x1), (2, .int x2)] [] s (x0_corner o x1 x2 s) := by
  have hzz := O.hst
  rw [hg] at hzz
  unfold x0_corner
  refine s_iload_n O 1 rfl rfl dX0_corner_0 ?_
  refine s_i2l O dX0_corner_1 ?_
  refine s_lconst O (x := 0) (by decide) dX0_corner_2 ?_
  refine s_ldc2 O (x := 39) q1037 dX0_corner_3 ?_
  refine s_callP O (enc2 := eI) (av := [.long x1.toInt64, .long 0, .long 39]) (rest := []) 3 (fun v0 h0 => mt_X0_isIn (xL X) (xG X) _ x1.toInt64 0 39 v0 h0) (lw_S q317 q318 q131 q319) hd_X0_isIn ⟨Nat.le_of_ble_eq_true rfl, Nat.le_of_ble_eq_true rfl⟩ rfl (Nat.le_of_ble_eq_true rfl) dX0_corner_6 (fun v1 => ?_)
  refine s_if_ne O (tgt := 14) dX0_corner_9 (by decide) ?_ ?_
  · exact Sim.none
  · refine s_iconst O (x := (-1)) (by decide) dX0_corner_12 ?_
    exact s_ireturn O hr rfl dX0_corner_13
theorem mt_X0_corner (l : Launch) (G : XG) (hfl : l.stackTraces = false) (hg : G.2.2.2.2 = zAll G.1.1 G.1.2.2.2 G.2.2.2.1) (o : Nat) (x1 : Int32) (x2 : Int32) (s t : XS) (v : Int32) (h : x0_corner o x1 x2 s = some (v, t)) : xMet l yX0_corner (ws_ yX0_corner cX0_corner 4 (some .int)) 1 25 G (xI s) [.ref o, .int x1, .int x2] (eI v) (xI t) :=
  xMet_of (E := xI) (enc := eI) (by decide +kernel) (Nat.le_of_ble_eq_true rfl) (fun X hl hG O hr hm => by subst hl; subst hG; exact wk_X0_corner O hfl hg hr hm o x1 x2 s) h
theorem hd_X0_isCorner : yX0_isCorner.cls ≠ "java/lang/invoke/MethodHandle" ∧ yX0_isCorner.cls ≠ "java/lang/invoke/VarHandle" ∧ (parseMethodDescriptor yX0_isCorner.desc).map (fun d => d.parameters.length) = some 1 := by decide +kernel
theorem hv_X0_isCorner : yX0_isCorner.cls = RX0 ∧ yX0_isCorner.cls ≠ "java/lang/invoke/MethodHandle" ∧ yX0_isCorner.cls ≠ "java/lang/invoke/VarHandle" ∧ (parseMethodDescriptor yX0_isCorner.desc).map (fun d => d.parameters.length) = some 1 := ⟨rfl, hd_X0_isCorner⟩
theorem hu_X0_isCorner : yX0_isCorner.name ≠ "<init>" ∧ (parseMethodDescriptor yX0_isCorner.desc).map (fun d => d.parameters.length) = some 1 := ⟨by decide +kernel, hd_X0_isCorner.2.2⟩
set_option maxHeartbeats 4000000 in
set_option maxRecDepth 100000 in
theorem wk_X0_isCorner {X : XC} (O : XOk X cX0_isCorner RX0 4 86) (hfl : (xL X).stackTraces = false) (hg : (xG X).2.2.2.2 = zAll (xG X).1.1 (xG X).1.2.2.2 (xG X).2.2.2.1) (hr : (xMeth X).sig.returnType = (some .boolean)) (hm : (xC X).maxLocals = 4) (o : Nat) (x1 : Nat) (s : XS) : Sim X xI (retC X eI xI) 0 [(0, .ref o), (1, .ref x1)] [] s (x0_isCorner o x1 s) := by
  have hzz := O.hst
  rw [hg] at hzz
  unfold x0_isCorner
  refine s_aload_n O 0 rfl rfl dX0_isCorner_0 ?_
  refine x_get O (ci := 0) (T := TX0) (N := 20) in_X0 rfl 3 (by decide) q234 (fun _ h => h) dX0_isCorner_1 (fun v0 => ?_)
  refine s_vR (fun r1 => ?_)
  refine s_aload_n O 1 rfl rfl dX0_isCorner_4 ?_
  refine s_dr (fun p2 hp3 => ?_)
  subst hp3
  refine x_callV O (enc2 := eI) (ci := 1) (av := [.ref x1]) (rest := []) 1 (fun v0 t0 h0 => mt_X1_covers (xL X) (xG X) hfl hg p2 x1 _ t0 v0 h0) (lw_V q979 q835 q836 q132 q837) hv_X1_covers ⟨Nat.le_of_ble_eq_true rfl, Nat.le_of_ble_eq_true rfl⟩ rfl rfl (Nat.le_of_ble_eq_true rfl) dX0_isCorner_5 (fun v4 s5 => ?_)
  refine s_if_eq O (tgt := 13) dX0_isCorner_8 (by decide) ?_ ?_
  · refine s_iconst O (x := 0) (by decide) dX0_isCorner_13 ?_
    refine s_istore_n O (L' := [(2, .int 0), (0, .ref o), (1, .ref x1)]) hm (by decide) rfl rfl dX0_isCorner_14 ?_
    refine Sim.sub (L' := [(0, .ref o), (1, .ref x1), (2, .int 0)]) [1, 2, 0] rfl ?_
    refine s_while (A := Int32) (B := (Unit) ⊕ (Unit)) (La := fun a15 => [(0, .ref o), (1, .ref x1), (2, .int a15)]) (We := fun bb0 s20 => match bb0 with | .inl b15 => xWX X 53 [] [] ((xI) s20) | .inr b15 => xWX X 61 [] [] ((xI) s20)) rfl rfl ?_ ?_
    · intro Cl hn he a15 s6
      unfold x0_isCorner_s15
      refine s_iload_n O 2 rfl rfl dX0_isCorner_15 ?_
      refine s_aload_n O 0 rfl rfl dX0_isCorner_16 ?_
      refine x_get O (ci := 0) (T := TX0) (N := 20) in_X0 rfl 3 (by decide) q234 (fun _ h => h) dX0_isCorner_17 (fun v0 => ?_)
      refine s_vR (fun r7 => ?_)
      refine s_dr (fun p8 hp9 => ?_)
      subst hp9
      refine x_getN O (ci := 1) (T := TX1) (N := 6) in_X1 rfl 0 (by decide) (zf_q206 hzz) (fun _ h => h) dX0_isCorner_20 (fun v0 => ?_)
      refine s_vI (fun u10 => ?_)
      refine s_icmp_ge O (tgt := 61) dX0_isCorner_23 (by decide) ?_ ?_
      · refine Sim.sub (L' := []) [] rfl ?_
        exact Sim.ret (he _ _)
      · refine s_aload_n O 1 rfl rfl dX0_isCorner_26 ?_
        refine s_iload_n O 2 rfl rfl dX0_isCorner_27 ?_
        refine s_dup2 O rfl rfl dX0_isCorner_28 ?_
        refine x_iald O dX0_isCorner_29 (fun u11 => ?_)
        refine s_iconst O (x := 1) (by decide) dX0_isCorner_30 ?_
        refine s_iadd O dX0_isCorner_31 ?_
        refine x_iast O dX0_isCorner_32 (fun s12 => ?_)
        refine s_aload_n O 0 rfl rfl dX0_isCorner_33 ?_
        refine x_get O (ci := 0) (T := TX0) (N := 20) in_X0 rfl 3 (by decide) q234 (fun _ h => h) dX0_isCorner_34 (fun v0 => ?_)
        refine s_vR (fun r13 => ?_)
        refine s_aload_n O 1 rfl rfl dX0_isCorner_37 ?_
        refine s_dr (fun p14 hp15 => ?_)
        subst hp15
        refine x_callV O (enc2 := eI) (ci := 1) (av := [.ref x1]) (rest := []) 1 (fun v0 t0 h0 => mt_X1_covers (xL X) (xG X) hfl hg p14 x1 _ t0 v0 h0) (lw_V q979 q835 q836 q132 q837) hv_X1_covers ⟨Nat.le_of_ble_eq_true rfl, Nat.le_of_ble_eq_true rfl⟩ rfl rfl (Nat.le_of_ble_eq_true rfl) dX0_isCorner_38 (fun v16 s17 => ?_)
        refine s_istore_n O (L' := [(3, .int v16), (0, .ref o), (1, .ref x1), (2, .int a15)]) hm (by decide) rfl rfl dX0_isCorner_41 ?_
        refine s_aload_n O 2 rfl rfl dX0_isCorner_42 ?_
        refine s_iload_n O 3 rfl rfl dX0_isCorner_43 ?_
        refine s_dup2 O rfl rfl dX0_isCorner_44 ?_
        refine x_iald O dX0_isCorner_45 (fun u18 => ?_)
        refine s_iconst O (x := 1) (by decide) dX0_isCorner_46 ?_
        refine s_isub O dX0_isCorner_47 ?_
        refine x_iast O dX0_isCorner_48 (fun s19 => ?_)
        refine s_iload_n O 0 rfl rfl dX0_isCorner_49 ?_
        refine s_if_ne O (tgt := 55) dX0_isCorner_50 (by decide) ?_ ?_
        · refine s_iinc O (y := (a15 + 1)) (L' := [(2, .int (a15 + 1)), (3, .int v16), (0, .ref o), (1, .ref x1)]) 3 rfl hm (by decide) rfl rfl dX0_isCorner_55 ?_
          refine s_goto O (tgt := 15) dX0_isCorner_58 (by decide) ?_
          refine Sim.sub (L' := [(0, .ref o), (1, .ref x1), (2, .int (a15 + 1))]) [2, 3, 0] rfl ?_
          exact Sim.ret (hn _ _)
        · refine Sim.sub (L' := []) [] rfl ?_
          exact Sim.ret (he _ _)
    · intro bb0 s20
      rcases bb0 with b15 | b15
      · show Sim X (xI) (retC X eI xI) 53 [] [] s20 _
        dsimp only
        refine s_iconst O (x := 0) (by decide) dX0_isCorner_53 ?_
        exact s_zreturnK O hr rfl rfl dX0_isCorner_54
      · show Sim X (xI) (retC X eI xI) 61 [] [] s20 _
        dsimp only
        refine s_iconst O (x := 1) (by decide) dX0_isCorner_61 ?_
        exact s_zreturnK O hr rfl rfl dX0_isCorner_62
  · refine s_iconst O (x := 0) (by decide) dX0_isCorner_11 ?_
    exact s_zreturnK O hr rfl rfl dX0_isCorner_12
theorem mt_X0_isCorner (l : Launch) (G : XG) (hfl : l.stackTraces = false) (hg : G.2.2.2.2 = zAll G.1.1 G.1.2.2.2 G.2.2.2.1) (o : Nat) (x1 : Nat) (s t : XS) (v : Int32) (h : x0_isCorner o x1 s = some (v, t)) : xMet l yX0_isCorner (ws_ yX0_isCorner cX0_isCorner 4 (some .boolean)) 4 86 G (xI s) [.ref o, .ref x1] (eI v) (xI t) :=
  xMet_of (E := xI) (enc := eI) (by decide +kernel) (Nat.le_of_ble_eq_true rfl) (fun X hl hG O hr hm => by subst hl; subst hG; exact wk_X0_isCorner O hfl hg hr hm o x1 s) h
theorem hd_X0_meets : yX0_meets.cls ≠ "java/lang/invoke/MethodHandle" ∧ yX0_meets.cls ≠ "java/lang/invoke/VarHandle" ∧ (parseMethodDescriptor yX0_meets.desc).map (fun d => d.parameters.length) = some 2 := by decide +kernel
theorem hv_X0_meets : yX0_meets.cls = RX0 ∧ yX0_meets.cls ≠ "java/lang/invoke/MethodHandle" ∧ yX0_meets.cls ≠ "java/lang/invoke/VarHandle" ∧ (parseMethodDescriptor yX0_meets.desc).map (fun d => d.parameters.length) = some 2 := ⟨rfl, hd_X0_meets⟩
theorem hu_X0_meets : yX0_meets.name ≠ "<init>" ∧ (parseMethodDescriptor yX0_meets.desc).map (fun d => d.parameters.length) = some 2 := ⟨by decide +kernel, hd_X0_meets.2.2⟩
set_option maxHeartbeats 4000000 in
set_option maxRecDepth 100000 in
theorem wk_X0_meets {X : XC} (O : XOk X cX0_meets RX0 5 109) (hfl : (xL X).stackTraces = false) (hg : (xG X).2.2.2.2 = zAll (xG X).1.1 (xG X).1.2.2.2 (xG X).2.2.2.1) (hr : (xMeth X).sig.returnType = (some .boolean)) (hm : (xC X).maxLocals = 3) (o : Nat) (x1 : Nat) (x2 : Int32) (s : XS) : Sim X xI (retC X eI xI) 0 [(0, .ref o), (1, .ref x1), (2, .int x2)] [] s (x0_meets o x1 x2 s) := by
  have hzz := O.hst
  rw [hg] at hzz
  unfold x0_meets
  have hj38 : ∀ (s6 : XS), Sim X (xI) (retC X eI xI) 38 [(0, .ref o)] [] s6 (x0_meets_j38 o s6) := by
    intro s6
    unfold x0_meets_j38
    refine s_aload_n O 0 rfl rfl dX0_meets_38 ?_
    refine s_dup O rfl dX0_meets_39 ?_
    refine x_get O (ci := 0) (T := TX0) (N := 20) in_X0 rfl 8 (by decide) q239 (fun _ h => h) dX0_meets_40 (fun v0 => ?_)
    refine s_vI (fun u7 => ?_)
    refine s_iconst O (x := 1) (by decide) dX0_meets_43 ?_
    refine s_iadd O dX0_meets_44 ?_
    refine x_put O (ci := 0) (T := TX0) (N := 20) (ty := .int) in_X0 tyX0 tyX0_ok nmX0 rfl 8 (by decide) q239 (fun _ h => h) rfl (by decide +kernel) rfl rfl dX0_meets_45 (fun s8 => ?_)
    refine s_iconst O (x := 1) (by decide) dX0_meets_48 ?_
    exact s_zreturnK O hr rfl rfl dX0_meets_49
  refine s_aload_n O 0 rfl rfl dX0_meets_0 ?_
  refine s_dup O rfl dX0_meets_1 ?_
  refine x_get O (ci := 0) (T := TX0) (N := 20) in_X0 rfl 7 (by decide) q238 (fun _ h => h) dX0_meets_2 (fun v0 => ?_)
  refine s_vI (fun u1 => ?_)
  refine s_iconst O (x := 1) (by decide) dX0_meets_5 ?_
  refine s_iadd O dX0_meets_6 ?_
  refine x_put O (ci := 0) (T := TX0) (N := 20) (ty := .int) in_X0 tyX0 tyX0_ok nmX0 rfl 7 (by decide) q238 (fun _ h => h) rfl (by decide +kernel) rfl rfl dX0_meets_7 (fun s2 => ?_)
  refine s_aload_n O 0 rfl rfl dX0_meets_10 ?_
  refine s_aload_n O 1 rfl rfl dX0_meets_11 ?_
  refine x_callV O (enc2 := eI) (ci := 0) (av := [.ref x1]) (rest := []) 1 (fun v0 t0 h0 => mt_X0_isCorner (xL X) (xG X) hfl hg o x1 _ t0 v0 h0) (lw_V q1178 q1180 qs33 q131 q1181) hv_X0_isCorner ⟨Nat.le_of_ble_eq_true rfl, Nat.le_of_ble_eq_true rfl⟩ rfl rfl (Nat.le_of_ble_eq_true rfl) dX0_meets_12 (fun v3 s4 => ?_)
  refine s_if_ne O (tgt := 20) dX0_meets_15 (by decide) ?_ ?_
  · refine s_aload_n O 0 rfl rfl dX0_meets_20 ?_
    refine x_get O (ci := 0) (T := TX0) (N := 20) in_X0 rfl 8 (by decide) q239 (fun _ h => h) dX0_meets_21 (fun v0 => ?_)
    refine s_vI (fun u5 => ?_)
    refine s_iload_n O 2 rfl rfl dX0_meets_24 ?_
    refine s_icmp_ne O (tgt := 38) dX0_meets_25 (by decide) ?_ ?_
    · refine Sim.sub (L' := [(0, .ref o)]) [0] rfl ?_
      exact hj38 _
    · refine s_aload_n O 0 rfl rfl dX0_meets_28 ?_
      refine s_aload_n O 0 rfl rfl dX0_meets_29 ?_
      refine x_get O (ci := 0) (T := TX0) (N := 20) in_X0 rfl 7 (by decide) q238 (fun _ h => h) dX0_meets_30 (fun v0 => ?_)
      refine s_vI (fun u9 => ?_)
      refine s_iconst O (x := 1) (by decide) dX0_meets_33 ?_
      refine s_isub O dX0_meets_34 ?_
      refine x_put O (ci := 0) (T := TX0) (N := 20) (ty := .int) in_X0 tyX0 tyX0_ok nmX0 rfl 9 (by decide) q240 (fun _ h => h) rfl (by decide +kernel) rfl rfl dX0_meets_35 (fun s10 => ?_)
      refine Sim.sub (L' := [(0, .ref o)]) [0] rfl ?_
      exact hj38 _
  · refine s_iconst O (x := 0) (by decide) dX0_meets_18 ?_
    exact s_zreturnK O hr rfl rfl dX0_meets_19
theorem mt_X0_meets (l : Launch) (G : XG) (hfl : l.stackTraces = false) (hg : G.2.2.2.2 = zAll G.1.1 G.1.2.2.2 G.2.2.2.1) (o : Nat) (x1 : Nat) (x2 : Int32) (s t : XS) (v : Int32) (h : x0_meets o x1 x2 s = some (v, t)) : xMet l yX0_meets (ws_ yX0_meets cX0_meets 3 (some .boolean)) 5 109 G (xI s) [.ref o, .ref x1, .int x2] (eI v) (xI t) :=
  xMet_of (E := xI) (enc := eI) (by decide +kernel) (Nat.le_of_ble_eq_true rfl) (fun X hl hG O hr hm => by subst hl; subst hG; exact wk_X0_meets O hfl hg hr hm o x1 x2 s) h
theorem hd_X0_lambda_corner_1 : yX0_lambda_corner_1.cls ≠ "java/lang/invoke/MethodHandle" ∧ yX0_lambda_corner_1.cls ≠ "java/lang/invoke/VarHandle" ∧ (parseMethodDescriptor yX0_lambda_corner_1.desc).map (fun d => d.parameters.length) = some 2 := by decide +kernel
theorem hv_X0_lambda_corner_1 : yX0_lambda_corner_1.cls = RX0 ∧ yX0_lambda_corner_1.cls ≠ "java/lang/invoke/MethodHandle" ∧ yX0_lambda_corner_1.cls ≠ "java/lang/invoke/VarHandle" ∧ (parseMethodDescriptor yX0_lambda_corner_1.desc).map (fun d => d.parameters.length) = some 2 := ⟨rfl, hd_X0_lambda_corner_1⟩
theorem hu_X0_lambda_corner_1 : yX0_lambda_corner_1.name ≠ "<init>" ∧ (parseMethodDescriptor yX0_lambda_corner_1.desc).map (fun d => d.parameters.length) = some 2 := ⟨by decide +kernel, hd_X0_lambda_corner_1.2.2⟩
set_option maxHeartbeats 4000000 in
set_option maxRecDepth 100000 in
theorem wk_X0_lambda_corner_1 {X : XC} (O : XOk X cX0_lambda_corner_1 RX0 6 131) (hfl : (xL X).stackTraces = false) (hg : (xG X).2.2.2.2 = zAll (xG X).1.1 (xG X).1.2.2.2 (xG X).2.2.2.1) (hr : (xMeth X).sig.returnType = (some .boolean)) (hm : (xC X).maxLocals = 3) (o : Nat) (x1 : Int32) (x2 : Nat) (s : XS) : Sim X xI (retC X eI xI) 0 [(0, .ref o), (1, .int x1), (2, .ref x2)] [] s (x0_lambda_corner_1 o x1 x2 s) := by
  have hzz := O.hst
  rw [hg] at hzz
  unfold x0_lambda_corner_1
  refine s_aload_n O 0 rfl rfl dX0_lambda_corner_1_0 ?_
  refine s_aload_n O 2 rfl rfl dX0_lambda_corner_1_1 ?_
  refine s_iload_n O 1 rfl rfl dX0_lambda_corner_1_2 ?_
  refine x_callV O (enc2 := eI) (ci := 0) (av := [.ref x2, .int x1]) (rest := []) 2 (fun v0 t0 h0 => mt_X0_meets (xL X) (xG X) hfl hg o x2 x1 _ t0 v0 h0) (lw_V q1174 q1176 qs32 q131 q1177) hv_X0_meets ⟨Nat.le_of_ble_eq_true rfl, Nat.le_of_ble_eq_true rfl⟩ rfl rfl (Nat.le_of_ble_eq_true rfl) dX0_lambda_corner_1_3 (fun v1 s2 => ?_)
  exact s_zretB O hr rfl dX0_lambda_corner_1_6
theorem mt_X0_lambda_corner_1 (l : Launch) (G : XG) (hfl : l.stackTraces = false) (hg : G.2.2.2.2 = zAll G.1.1 G.1.2.2.2 G.2.2.2.1) (o : Nat) (x1 : Int32) (x2 : Nat) (s t : XS) (v : Int32) (h : x0_lambda_corner_1 o x1 x2 s = some (v, t)) : xMet l yX0_lambda_corner_1 (ws_ yX0_lambda_corner_1 cX0_lambda_corner_1 3 (some .boolean)) 6 131 G (xI s) [.ref o, .int x1, .ref x2] (eI v) (xI t) :=
  xMet_of (E := xI) (enc := eI) (by decide +kernel) (Nat.le_of_ble_eq_true rfl) (fun X hl hG O hr hm => by subst hl; subst hG; exact wk_X0_lambda_corner_1 O hfl hg hr hm o x1 x2 s) h
theorem hd_X0_holdsAll : yX0_holdsAll.cls ≠ "java/lang/invoke/MethodHandle" ∧ yX0_holdsAll.cls ≠ "java/lang/invoke/VarHandle" ∧ (parseMethodDescriptor yX0_holdsAll.desc).map (fun d => d.parameters.length) = some 1 := by decide +kernel
theorem hv_X0_holdsAll : yX0_holdsAll.cls = RX0 ∧ yX0_holdsAll.cls ≠ "java/lang/invoke/MethodHandle" ∧ yX0_holdsAll.cls ≠ "java/lang/invoke/VarHandle" ∧ (parseMethodDescriptor yX0_holdsAll.desc).map (fun d => d.parameters.length) = some 1 := ⟨rfl, hd_X0_holdsAll⟩
theorem hu_X0_holdsAll : yX0_holdsAll.name ≠ "<init>" ∧ (parseMethodDescriptor yX0_holdsAll.desc).map (fun d => d.parameters.length) = some 1 := ⟨by decide +kernel, hd_X0_holdsAll.2.2⟩
set_option maxHeartbeats 4000000 in
set_option maxRecDepth 100000 in
theorem wk_X0_holdsAll {X : XC} (O : XOk X cX0_holdsAll RX0 3 64) (hfl : (xL X).stackTraces = false) (hg : (xG X).2.2.2.2 = zAll (xG X).1.1 (xG X).1.2.2.2 (xG X).2.2.2.1) (hr : (xMeth X).sig.returnType = (some .boolean)) (hm : (xC X).maxLocals = 6) (o : Nat) (x1 : Nat) (s : XS) : Sim X xI (retC X eI xI) 0 [(0, .ref o), (1, .ref x1)] [] s (x0_holdsAll o x1 s) := by
  have hzz := O.hst
  rw [hg] at hzz
  unfold x0_holdsAll
  refine s_iconst O (x := 0) (by decide) dX0_holdsAll_0 ?_
  refine s_istore_n O (L' := [(2, .int 0), (0, .ref o), (1, .ref x1)]) hm (by decide) rfl rfl dX0_holdsAll_1 ?_
  refine Sim.sub (L' := [(0, .ref o), (1, .ref x1), (2, .int 0)]) [1, 2, 0] rfl ?_
  refine s_while (A := Int32) (B := (Unit) ⊕ (Unit)) (La := fun a2 => [(0, .ref o), (1, .ref x1), (2, .int a2)]) (We := fun bb0 s33 => match bb0 with | .inl b2 => xWX X 88 [] [] ((xI) s33) | .inr b2 => xWX X 96 [] [] ((xI) s33)) rfl rfl ?_ ?_
  · intro Cl hn he a2 s1
    unfold x0_holdsAll_s2
    refine s_iload_n O 2 rfl rfl dX0_holdsAll_2 ?_
    refine s_aload_n O 0 rfl rfl dX0_holdsAll_3 ?_
    refine x_get O (ci := 0) (T := TX0) (N := 20) in_X0 rfl 3 (by decide) q234 (fun _ h => h) dX0_holdsAll_4 (fun v0 => ?_)
    refine s_vR (fun r2 => ?_)
    refine s_dr (fun p3 hp4 => ?_)
    subst hp4
    refine x_getN O (ci := 1) (T := TX1) (N := 6) in_X1 rfl 1 (by decide) (zf_q208 hzz) (fun _ h => h) dX0_holdsAll_7 (fun v0 => ?_)
    refine s_vR (fun r5 => ?_)
    refine s_dr (fun p6 hp7 => ?_)
    subst hp7
    refine x_callF O (enc2 := eI) (ci := 7) (av := []) (rest := [.int a2]) 0 (fun v0 t0 h0 => mt_J2_size (xL X) (xG X) hfl hg p6 _ t0 v0 h0) (lw_F q897 q695 q697 q135 q699) (zw_0 hzz) hf_J2_size ⟨Nat.le_of_ble_eq_true rfl, Nat.le_of_ble_eq_true rfl⟩ rfl rfl (Nat.le_of_ble_eq_true rfl) dX0_holdsAll_10 (fun v8 s9 => ?_)
    refine s_icmp_ge O (tgt := 96) dX0_holdsAll_15 (by decide) ?_ ?_
    · refine Sim.sub (L' := []) [] rfl ?_
      exact Sim.ret (he _ _)
    · refine s_aload_n O 0 rfl rfl dX0_holdsAll_18 ?_
      refine x_get O (ci := 0) (T := TX0) (N := 20) in_X0 rfl 3 (by decide) q234 (fun _ h => h) dX0_holdsAll_19 (fun v0 => ?_)
      refine s_vR (fun r10 => ?_)
      refine s_dr (fun p11 hp12 => ?_)
      subst hp12
      refine x_getN O (ci := 1) (T := TX1) (N := 6) in_X1 rfl 1 (by decide) (zf_q208 hzz) (fun _ h => h) dX0_holdsAll_22 (fun v0 => ?_)
      refine s_vR (fun r13 => ?_)
      refine s_iload_n O 2 rfl rfl dX0_holdsAll_25 ?_
      refine s_dr (fun p14 hp15 => ?_)
      subst hp15
      refine x_callF O (enc2 := eR) (ci := 7) (av := [.int a2]) (rest := []) 1 (fun v0 t0 h0 => mt_J2_get (xL X) (xG X) hfl hg p14 a2 _ t0 v0 h0) (lw_F q974 q844 q846 q135 q848) (zw_3 hzz) hf_J2_get ⟨Nat.le_of_ble_eq_true rfl, Nat.le_of_ble_eq_true rfl⟩ rfl rfl (Nat.le_of_ble_eq_true rfl) dX0_holdsAll_26 (fun r16 s17 => ?_)
      refine s_dr (fun p18 hp19 => ?_)
      subst hp19
      refine x_cast O (ci := 5) rfl q945 dX0_holdsAll_31 ?_
      refine s_astore_n O (L' := [(3, .ref p18), (0, .ref o), (1, .ref x1), (2, .int a2)]) hm (by decide) rfl rfl dX0_holdsAll_34 ?_
      refine s_iconst O (x := 0) (by decide) dX0_holdsAll_35 ?_
      refine s_istore O (L' := [(4, .int 0), (3, .ref p18), (0, .ref o), (1, .ref x1), (2, .int a2)]) hm (by decide) rfl dX0_holdsAll_36 ?_
      refine s_iconst O (x := 0) (by decide) dX0_holdsAll_38 ?_
      refine s_istore O (L' := [(5, .int 0), (4, .int 0), (3, .ref p18), (0, .ref o), (1, .ref x1), (2, .int a2)]) hm (by decide) rfl dX0_holdsAll_39 ?_
      refine Sim.sub (L' := [(0, .ref o), (1, .ref x1), (2, .int a2), (3, .ref p18), (4, .int 0), (5, .int 0)]) [3, 4, 5, 2, 1, 0] rfl ?_
      refine s_while (A := Int32 × Int32) (B := Int32) (La := fun a41 => [(0, .ref o), (1, .ref x1), (2, .int a2), (3, .ref p18), (4, .int a41.1), (5, .int a41.2)]) (We := fun b41 s32 => xWX X 83 [(0, .ref o), (1, .ref x1), (2, .int a2), (4, .int b41)] [] ((xI) s32)) rfl rfl ?_ ?_
      · intro Cl hn he a41 s20
        unfold x0_holdsAll_s41
        refine s_iload O 5 rfl dX0_holdsAll_41 ?_
        refine s_aload_n O 0 rfl rfl dX0_holdsAll_43 ?_
        refine x_get O (ci := 0) (T := TX0) (N := 20) in_X0 rfl 3 (by decide) q234 (fun _ h => h) dX0_holdsAll_44 (fun v0 => ?_)
        refine s_vR (fun r21 => ?_)
        refine s_dr (fun p22 hp23 => ?_)
        subst hp23
        refine x_getN O (ci := 1) (T := TX1) (N := 6) in_X1 rfl 0 (by decide) (zf_q206 hzz) (fun _ h => h) dX0_holdsAll_47 (fun v0 => ?_)
        refine s_vI (fun u24 => ?_)
        refine s_icmp_ge O (tgt := 83) dX0_holdsAll_50 (by decide) ?_ ?_
        · refine Sim.sub (L' := [(0, .ref o), (1, .ref x1), (2, .int a2), (4, .int a41.1)]) [0, 1, 2, 4] rfl ?_
          exact Sim.ret (he _ _)
        · refine s_iload O 4 rfl dX0_holdsAll_53 ?_
          refine s_aload_n O 3 rfl rfl dX0_holdsAll_55 ?_
          refine x_getN O (ci := 5) (T := TX5) (N := 2) in_X5 rfl 0 (by decide) (zf_q708 hzz) (fun _ h => h) dX0_holdsAll_56 (fun v0 => ?_)
          refine s_vR (fun r25 => ?_)
          refine s_iload O 5 rfl dX0_holdsAll_59 ?_
          refine s_dr (fun p26 hp27 => ?_)
          subst hp27
          refine x_iald O dX0_holdsAll_61 (fun u28 => ?_)
          refine s_aload_n O 1 rfl rfl dX0_holdsAll_62 ?_
          refine s_iload O 5 rfl dX0_holdsAll_63 ?_
          refine x_iald O dX0_holdsAll_65 (fun u29 => ?_)
          refine s_icmp_lt O (tgt := 73) dX0_holdsAll_66 (by decide) ?_ ?_
          · refine s_iconst O (x := 0) (by decide) dX0_holdsAll_73 ?_
            refine s_ior O dX0_holdsAll_74 ?_
            refine s_nmi fun u30 => ?_
            refine s_istore O (L' := [(4, .int u30), (0, .ref o), (1, .ref x1), (2, .int a2), (3, .ref p18), (5, .int a41.2)]) hm (by decide) rfl dX0_holdsAll_75 ?_
            refine s_iinc O (y := (a41.2 + 1)) (L' := [(5, .int (a41.2 + 1)), (4, .int u30), (0, .ref o), (1, .ref x1), (2, .int a2), (3, .ref p18)]) 5 rfl hm (by decide) rfl rfl dX0_holdsAll_77 ?_
            refine s_goto O (tgt := 41) dX0_holdsAll_80 (by decide) ?_
            refine Sim.sub (L' := [(0, .ref o), (1, .ref x1), (2, .int a2), (3, .ref p18), (4, .int u30), (5, .int (a41.2 + 1))]) [2, 3, 4, 5, 1, 0] rfl ?_
            exact Sim.ret (hn _ _)
          · refine s_iconst O (x := 1) (by decide) dX0_holdsAll_69 ?_
            refine s_goto O (tgt := 74) dX0_holdsAll_70 (by decide) ?_
            refine s_ior O dX0_holdsAll_74 ?_
            refine s_nmi fun u31 => ?_
            refine s_istore O (L' := [(4, .int u31), (0, .ref o), (1, .ref x1), (2, .int a2), (3, .ref p18), (5, .int a41.2)]) hm (by decide) rfl dX0_holdsAll_75 ?_
            refine s_iinc O (y := (a41.2 + 1)) (L' := [(5, .int (a41.2 + 1)), (4, .int u31), (0, .ref o), (1, .ref x1), (2, .int a2), (3, .ref p18)]) 5 rfl hm (by decide) rfl rfl dX0_holdsAll_77 ?_
            refine s_goto O (tgt := 41) dX0_holdsAll_80 (by decide) ?_
            refine Sim.sub (L' := [(0, .ref o), (1, .ref x1), (2, .int a2), (3, .ref p18), (4, .int u31), (5, .int (a41.2 + 1))]) [2, 3, 4, 5, 1, 0] rfl ?_
            exact Sim.ret (hn _ _)
      · intro b41 s32
        show Sim X (xI) Cl 83 [(0, .ref o), (1, .ref x1), (2, .int a2), (4, .int b41)] [] s32 _
        refine s_iload O 3 rfl dX0_holdsAll_83 ?_
        refine s_if_ne O (tgt := 90) dX0_holdsAll_85 (by decide) ?_ ?_
        · refine s_iinc O (y := (a2 + 1)) (L' := [(2, .int (a2 + 1)), (0, .ref o), (1, .ref x1), (4, .int b41)]) 2 rfl hm (by decide) rfl rfl dX0_holdsAll_90 ?_
          refine s_goto O (tgt := 2) dX0_holdsAll_93 (by decide) ?_
          refine Sim.sub (L' := [(0, .ref o), (1, .ref x1), (2, .int (a2 + 1))]) [1, 2, 0] rfl ?_
          exact Sim.ret (hn _ _)
        · refine Sim.sub (L' := []) [] rfl ?_
          exact Sim.ret (he _ _)
  · intro bb0 s33
    rcases bb0 with b2 | b2
    · show Sim X (xI) (retC X eI xI) 88 [] [] s33 _
      dsimp only
      refine s_iconst O (x := 0) (by decide) dX0_holdsAll_88 ?_
      exact s_zreturnK O hr rfl rfl dX0_holdsAll_89
    · show Sim X (xI) (retC X eI xI) 96 [] [] s33 _
      dsimp only
      refine s_iconst O (x := 1) (by decide) dX0_holdsAll_96 ?_
      exact s_zreturnK O hr rfl rfl dX0_holdsAll_97
theorem mt_X0_holdsAll (l : Launch) (G : XG) (hfl : l.stackTraces = false) (hg : G.2.2.2.2 = zAll G.1.1 G.1.2.2.2 G.2.2.2.1) (o : Nat) (x1 : Nat) (s t : XS) (v : Int32) (h : x0_holdsAll o x1 s = some (v, t)) : xMet l yX0_holdsAll (ws_ yX0_holdsAll cX0_holdsAll 6 (some .boolean)) 3 64 G (xI s) [.ref o, .ref x1] (eI v) (xI t) :=
  xMet_of (E := xI) (enc := eI) (by decide +kernel) (Nat.le_of_ble_eq_true rfl) (fun X hl hG O hr hm => by subst hl; subst hG; exact wk_X0_holdsAll O hfl hg hr hm o x1 s) h
theorem hd_X0_isPart : yX0_isPart.cls ≠ "java/lang/invoke/MethodHandle" ∧ yX0_isPart.cls ≠ "java/lang/invoke/VarHandle" ∧ (parseMethodDescriptor yX0_isPart.desc).map (fun d => d.parameters.length) = some 1 := by decide +kernel
theorem hv_X0_isPart : yX0_isPart.cls = RX0 ∧ yX0_isPart.cls ≠ "java/lang/invoke/MethodHandle" ∧ yX0_isPart.cls ≠ "java/lang/invoke/VarHandle" ∧ (parseMethodDescriptor yX0_isPart.desc).map (fun d => d.parameters.length) = some 1 := ⟨rfl, hd_X0_isPart⟩
theorem hu_X0_isPart : yX0_isPart.name ≠ "<init>" ∧ (parseMethodDescriptor yX0_isPart.desc).map (fun d => d.parameters.length) = some 1 := ⟨by decide +kernel, hd_X0_isPart.2.2⟩
set_option maxHeartbeats 4000000 in
set_option maxRecDepth 100000 in
theorem wk_X0_isPart {X : XC} (O : XOk X cX0_isPart RX0 4 89) (hfl : (xL X).stackTraces = false) (hg : (xG X).2.2.2.2 = zAll (xG X).1.1 (xG X).1.2.2.2 (xG X).2.2.2.1) (hr : (xMeth X).sig.returnType = (some .boolean)) (hm : (xC X).maxLocals = 4) (o : Nat) (x1 : Nat) (s : XS) : Sim X xI (retC X eI xI) 0 [(0, .ref o), (1, .ref x1)] [] s (x0_isPart o x1 s) := by
  have hzz := O.hst
  rw [hg] at hzz
  unfold x0_isPart
  refine s_aload_n O 0 rfl rfl dX0_isPart_0 ?_
  refine s_aload_n O 1 rfl rfl dX0_isPart_1 ?_
  refine x_callV O (enc2 := eI) (ci := 0) (av := [.ref x1]) (rest := []) 1 (fun v0 t0 h0 => mt_X0_holdsAll (xL X) (xG X) hfl hg o x1 _ t0 v0 h0) (lw_V q1194 q1196 qs36 q131 q1197) hv_X0_holdsAll ⟨Nat.le_of_ble_eq_true rfl, Nat.le_of_ble_eq_true rfl⟩ rfl rfl (Nat.le_of_ble_eq_true rfl) dX0_isPart_2 (fun v1 s2 => ?_)
  refine s_if_ne O (tgt := 10) dX0_isPart_5 (by decide) ?_ ?_
  · refine s_iconst O (x := 0) (by decide) dX0_isPart_10 ?_
    refine s_istore_n O (L' := [(2, .int 0), (0, .ref o), (1, .ref x1)]) hm (by decide) rfl rfl dX0_isPart_11 ?_
    refine Sim.sub (L' := [(0, .ref o), (1, .ref x1), (2, .int 0)]) [1, 2, 0] rfl ?_
    refine s_while (A := Int32) (B := (Unit) ⊕ (Unit)) (La := fun a12 => [(0, .ref o), (1, .ref x1), (2, .int a12)]) (We := fun bb0 s15 => match bb0 with | .inl b12 => xWX X 58 [] [] ((xI) s15) | .inr b12 => xWX X 66 [] [] ((xI) s15)) rfl rfl ?_ ?_
    · intro Cl hn he a12 s3
      unfold x0_isPart_s12
      refine s_iload_n O 2 rfl rfl dX0_isPart_12 ?_
      refine s_aload_n O 0 rfl rfl dX0_isPart_13 ?_
      refine x_get O (ci := 0) (T := TX0) (N := 20) in_X0 rfl 3 (by decide) q234 (fun _ h => h) dX0_isPart_14 (fun v0 => ?_)
      refine s_vR (fun r4 => ?_)
      refine s_dr (fun p5 hp6 => ?_)
      subst hp6
      refine x_getN O (ci := 1) (T := TX1) (N := 6) in_X1 rfl 0 (by decide) (zf_q206 hzz) (fun _ h => h) dX0_isPart_17 (fun v0 => ?_)
      refine s_vI (fun u7 => ?_)
      refine s_icmp_ge O (tgt := 66) dX0_isPart_20 (by decide) ?_ ?_
      · refine Sim.sub (L' := []) [] rfl ?_
        exact Sim.ret (he _ _)
      · refine s_aload_n O 1 rfl rfl dX0_isPart_23 ?_
        refine s_iload_n O 2 rfl rfl dX0_isPart_24 ?_
        refine x_iald O dX0_isPart_25 (fun u8 => ?_)
        refine s_bipush O (x := 8) (by decide) dX0_isPart_26 ?_
        refine s_icmp_le O (tgt := 34) dX0_isPart_28 (by decide) ?_ ?_
        · refine s_aload_n O 1 rfl rfl dX0_isPart_34 ?_
          refine s_iload_n O 2 rfl rfl dX0_isPart_35 ?_
          refine s_dup2 O rfl rfl dX0_isPart_36 ?_
          refine x_iald O dX0_isPart_37 (fun u9 => ?_)
          refine s_iconst O (x := 1) (by decide) dX0_isPart_38 ?_
          refine s_iadd O dX0_isPart_39 ?_
          refine x_iast O dX0_isPart_40 (fun s10 => ?_)
          refine s_aload_n O 0 rfl rfl dX0_isPart_41 ?_
          refine s_aload_n O 1 rfl rfl dX0_isPart_42 ?_
          refine x_callV O (enc2 := eI) (ci := 0) (av := [.ref x1]) (rest := []) 1 (fun v0 t0 h0 => mt_X0_holdsAll (xL X) (xG X) hfl hg o x1 _ t0 v0 h0) (lw_V q1194 q1196 qs36 q131 q1197) hv_X0_holdsAll ⟨Nat.le_of_ble_eq_true rfl, Nat.le_of_ble_eq_true rfl⟩ rfl rfl (Nat.le_of_ble_eq_true rfl) dX0_isPart_43 (fun v11 s12 => ?_)
          refine s_istore_n O (L' := [(3, .int v11), (0, .ref o), (1, .ref x1), (2, .int a12)]) hm (by decide) rfl rfl dX0_isPart_46 ?_
          refine s_aload_n O 2 rfl rfl dX0_isPart_47 ?_
          refine s_iload_n O 3 rfl rfl dX0_isPart_48 ?_
          refine s_dup2 O rfl rfl dX0_isPart_49 ?_
          refine x_iald O dX0_isPart_50 (fun u13 => ?_)
          refine s_iconst O (x := 1) (by decide) dX0_isPart_51 ?_
          refine s_isub O dX0_isPart_52 ?_
          refine x_iast O dX0_isPart_53 (fun s14 => ?_)
          refine s_iload_n O 0 rfl rfl dX0_isPart_54 ?_
          refine s_if_eq O (tgt := 60) dX0_isPart_55 (by decide) ?_ ?_
          · refine s_iinc O (y := (a12 + 1)) (L' := [(2, .int (a12 + 1)), (3, .int v11), (0, .ref o), (1, .ref x1)]) 3 rfl hm (by decide) rfl rfl dX0_isPart_60 ?_
            refine s_goto O (tgt := 12) dX0_isPart_63 (by decide) ?_
            refine Sim.sub (L' := [(0, .ref o), (1, .ref x1), (2, .int (a12 + 1))]) [2, 3, 0] rfl ?_
            exact Sim.ret (hn _ _)
          · refine Sim.sub (L' := []) [] rfl ?_
            exact Sim.ret (he _ _)
        · refine s_goto O (tgt := 60) dX0_isPart_31 (by decide) ?_
          refine s_iinc O (y := (a12 + 1)) (L' := [(2, .int (a12 + 1)), (0, .ref o), (1, .ref x1)]) 2 rfl hm (by decide) rfl rfl dX0_isPart_60 ?_
          refine s_goto O (tgt := 12) dX0_isPart_63 (by decide) ?_
          refine Sim.sub (L' := [(0, .ref o), (1, .ref x1), (2, .int (a12 + 1))]) [1, 2, 0] rfl ?_
          exact Sim.ret (hn _ _)
    · intro bb0 s15
      rcases bb0 with b12 | b12
      · show Sim X (xI) (retC X eI xI) 58 [] [] s15 _
        dsimp only
        refine s_iconst O (x := 0) (by decide) dX0_isPart_58 ?_
        exact s_zreturnK O hr rfl rfl dX0_isPart_59
      · show Sim X (xI) (retC X eI xI) 66 [] [] s15 _
        dsimp only
        refine s_iconst O (x := 1) (by decide) dX0_isPart_66 ?_
        exact s_zreturnK O hr rfl rfl dX0_isPart_67
  · refine s_iconst O (x := 0) (by decide) dX0_isPart_8 ?_
    exact s_zreturnK O hr rfl rfl dX0_isPart_9
theorem mt_X0_isPart (l : Launch) (G : XG) (hfl : l.stackTraces = false) (hg : G.2.2.2.2 = zAll G.1.1 G.1.2.2.2 G.2.2.2.1) (o : Nat) (x1 : Nat) (s t : XS) (v : Int32) (h : x0_isPart o x1 s = some (v, t)) : xMet l yX0_isPart (ws_ yX0_isPart cX0_isPart 4 (some .boolean)) 4 89 G (xI s) [.ref o, .ref x1] (eI v) (xI t) :=
  xMet_of (E := xI) (enc := eI) (by decide +kernel) (Nat.le_of_ble_eq_true rfl) (fun X hl hG O hr hm => by subst hl; subst hG; exact wk_X0_isPart O hfl hg hr hm o x1 s) h
theorem hd_X0_goesTo : yX0_goesTo.cls ≠ "java/lang/invoke/MethodHandle" ∧ yX0_goesTo.cls ≠ "java/lang/invoke/VarHandle" ∧ (parseMethodDescriptor yX0_goesTo.desc).map (fun d => d.parameters.length) = some 2 := by decide +kernel
theorem hv_X0_goesTo : yX0_goesTo.cls = RX0 ∧ yX0_goesTo.cls ≠ "java/lang/invoke/MethodHandle" ∧ yX0_goesTo.cls ≠ "java/lang/invoke/VarHandle" ∧ (parseMethodDescriptor yX0_goesTo.desc).map (fun d => d.parameters.length) = some 2 := ⟨rfl, hd_X0_goesTo⟩
theorem hu_X0_goesTo : yX0_goesTo.name ≠ "<init>" ∧ (parseMethodDescriptor yX0_goesTo.desc).map (fun d => d.parameters.length) = some 2 := ⟨by decide +kernel, hd_X0_goesTo.2.2⟩
set_option maxHeartbeats 4000000 in
set_option maxRecDepth 100000 in
theorem wk_X0_goesTo {X : XC} {F Lo fr0 lo0 : Nat} (O : XOk X cX0_goesTo RX0 F Lo) (hf1 : fr0 + 1 ≤ F ∧ 8 + (3 + 11) + lo0 ≤ Lo) (hf2 : 5 ≤ F ∧ 112 ≤ Lo) (hfl : (xL X).stackTraces = false) (hg : (xG X).2.2.2.2 = zAll (xG X).1.1 (xG X).1.2.2.2 (xG X).2.2.2.1) (hr : (xMeth X).sig.returnType = (some .boolean)) (hm : (xC X).maxLocals = 3) (rc : Nat → Int32 → Int32 → XS → Option ((Int32) × XS)) (ih : ∀ (o : Nat) (x1 : Int32) (x2 : Int32) (s t : XS) (v : Int32), rc o x1 x2 s = some (v, t) → xMet (xL X) yX0_goesTo (ws_ yX0_goesTo cX0_goesTo 3 (some .boolean)) fr0 lo0 (xG X) (xI s) [.ref o, .int x1, .int x2] (eI v) (xI t)) (o : Nat) (x1 : Int32) (x2 : Int32) (s : XS) : Sim X xI (retC X eI xI) 0 [(0, .ref o), (1, .int x1), (2, .int x2)] [] s (x0_goesTo_b rc o x1 x2 s) := by
  have hzz := O.hst
  rw [hg] at hzz
  unfold x0_goesTo_b
  refine s_iload_n O 1 rfl rfl dX0_goesTo_0 ?_
  refine s_aload_n O 0 rfl rfl dX0_goesTo_1 ?_
  refine x_get O (ci := 0) (T := TX0) (N := 20) in_X0 rfl 3 (by decide) q234 (fun _ h => h) dX0_goesTo_2 (fun v0 => ?_)
  refine s_vR (fun r1 => ?_)
  refine s_dr (fun p2 hp3 => ?_)
  subst hp3
  refine x_getN O (ci := 1) (T := TX1) (N := 6) in_X1 rfl 0 (by decide) (zf_q206 hzz) (fun _ h => h) dX0_goesTo_5 (fun v0 => ?_)
  refine s_vI (fun u4 => ?_)
  refine s_icmp_ne O (tgt := 50) dX0_goesTo_8 (by decide) ?_ ?_
  · refine s_aload_n O 0 rfl rfl dX0_goesTo_50 ?_
    refine x_get O (ci := 0) (T := TX0) (N := 20) in_X0 rfl 10 (by decide) q241 (fun _ h => h) dX0_goesTo_51 (fun v0 => ?_)
    refine s_vR (fun r5 => ?_)
    refine s_iload_n O 1 rfl rfl dX0_goesTo_54 ?_
    refine s_iconst O (x := 1) (by decide) dX0_goesTo_55 ?_
    refine s_dr (fun p6 hp7 => ?_)
    subst hp7
    refine x_iast O dX0_goesTo_56 (fun s8 => ?_)
    refine s_while (A := Unit) (B := (Unit) ⊕ (Unit)) (La := fun _ => [(0, .ref o), (1, .int x1), (2, .int x2)]) (We := fun bb0 s21 => match bb0 with | .inl b57 => xWX X 79 [] [] ((xI) s21) | .inr b57 => xWX X 94 [] [] ((xI) s21)) rfl rfl ?_ ?_
    · intro Cl hn he a57 s9
      unfold x0_goesTo_s57
      refine s_aload_n O 0 rfl rfl dX0_goesTo_57 ?_
      refine x_get O (ci := 0) (T := TX0) (N := 20) in_X0 rfl 10 (by decide) q241 (fun _ h => h) dX0_goesTo_58 (fun v0 => ?_)
      refine s_vR (fun r10 => ?_)
      refine s_iload_n O 1 rfl rfl dX0_goesTo_61 ?_
      refine s_dr (fun p11 hp12 => ?_)
      subst hp12
      refine x_iald O dX0_goesTo_62 (fun u13 => ?_)
      refine s_bipush O (x := 9) (by decide) dX0_goesTo_63 ?_
      refine s_icmp_gt O (tgt := 94) dX0_goesTo_65 (by decide) ?_ ?_
      · refine Sim.sub (L' := []) [] rfl ?_
        exact Sim.ret (he _ _)
      · refine s_aload_n O 0 rfl rfl dX0_goesTo_68 ?_
        refine s_iload_n O 1 rfl rfl dX0_goesTo_69 ?_
        refine s_iconst O (x := 1) (by decide) dX0_goesTo_70 ?_
        refine s_iadd O dX0_goesTo_71 ?_
        refine s_iload_n O 2 rfl rfl dX0_goesTo_72 ?_
        refine x_callV O (enc2 := eI) (ci := 0) (av := [.int (x1 + 1), .int x2]) (rest := []) 2 (fun v0 t0 h0 => ih o (x1 + 1) x2 _ t0 v0 h0) (lw_V q1186 q1188 qs34 q131 q1189) hv_X0_goesTo hf1 rfl rfl (Nat.le_of_ble_eq_true rfl) dX0_goesTo_73 (fun v14 s15 => ?_)
        refine s_if_eq O (tgt := 81) dX0_goesTo_76 (by decide) ?_ ?_
        · refine s_aload_n O 0 rfl rfl dX0_goesTo_81 ?_
          refine x_get O (ci := 0) (T := TX0) (N := 20) in_X0 rfl 10 (by decide) q241 (fun _ h => h) dX0_goesTo_82 (fun v0 => ?_)
          refine s_vR (fun r16 => ?_)
          refine s_iload_n O 1 rfl rfl dX0_goesTo_85 ?_
          refine s_dup2 O rfl (va_cat _) dX0_goesTo_86 ?_
          refine s_dr (fun p17 hp18 => ?_)
          subst hp18
          refine x_iald O dX0_goesTo_87 (fun u19 => ?_)
          refine s_iconst O (x := 1) (by decide) dX0_goesTo_88 ?_
          refine s_iadd O dX0_goesTo_89 ?_
          refine x_iast O dX0_goesTo_90 (fun s20 => ?_)
          refine s_goto O (tgt := 57) dX0_goesTo_91 (by decide) ?_
          exact Sim.ret (hn _ _)
        · refine Sim.sub (L' := []) [] rfl ?_
          exact Sim.ret (he _ _)
    · intro bb0 s21
      rcases bb0 with b57 | b57
      · show Sim X (xI) (retC X eI xI) 79 [] [] s21 _
        dsimp only
        refine s_iconst O (x := 1) (by decide) dX0_goesTo_79 ?_
        exact s_zreturnK O hr rfl rfl dX0_goesTo_80
      · show Sim X (xI) (retC X eI xI) 94 [] [] s21 _
        dsimp only
        refine s_iconst O (x := 0) (by decide) dX0_goesTo_94 ?_
        exact s_zreturnK O hr rfl rfl dX0_goesTo_95
  · refine s_aload_n O 0 rfl rfl dX0_goesTo_11 ?_
    refine s_aload_n O 0 rfl rfl dX0_goesTo_12 ?_
    refine x_get O (ci := 0) (T := TX0) (N := 20) in_X0 rfl 10 (by decide) q241 (fun _ h => h) dX0_goesTo_13 (fun v0 => ?_)
    refine s_vR (fun r22 => ?_)
    refine s_dr (fun p23 hp24 => ?_)
    subst hp24
    refine x_callV O (enc2 := eI) (ci := 0) (av := [.ref p23]) (rest := []) 1 (fun v0 t0 h0 => mt_X0_isPart (xL X) (xG X) hfl hg o p23 _ t0 v0 h0) (lw_V q1190 q1192 qs35 q131 q1193) hv_X0_isPart ⟨by omega, by omega⟩ rfl rfl (Nat.le_of_ble_eq_true rfl) dX0_goesTo_16 (fun v25 s26 => ?_)
    refine s_if_ne O (tgt := 24) dX0_goesTo_19 (by decide) ?_ ?_
    · refine s_aload_n O 0 rfl rfl dX0_goesTo_24 ?_
      refine s_dup O rfl dX0_goesTo_25 ?_
      refine x_get O (ci := 0) (T := TX0) (N := 20) in_X0 rfl 11 (by decide) q242 (fun _ h => h) dX0_goesTo_26 (fun v0 => ?_)
      refine s_vI (fun u27 => ?_)
      refine s_iconst O (x := 1) (by decide) dX0_goesTo_29 ?_
      refine s_iadd O dX0_goesTo_30 ?_
      refine x_put O (ci := 0) (T := TX0) (N := 20) (ty := .int) in_X0 tyX0 tyX0_ok nmX0 rfl 11 (by decide) q242 (fun _ h => h) rfl (by decide +kernel) rfl rfl dX0_goesTo_31 (fun s28 => ?_)
      refine s_aload_n O 0 rfl rfl dX0_goesTo_34 ?_
      refine x_get O (ci := 0) (T := TX0) (N := 20) in_X0 rfl 11 (by decide) q242 (fun _ h => h) dX0_goesTo_35 (fun v0 => ?_)
      refine s_vI (fun u29 => ?_)
      refine s_iload_n O 2 rfl rfl dX0_goesTo_38 ?_
      refine s_iconst O (x := 1) (by decide) dX0_goesTo_39 ?_
      refine s_iadd O dX0_goesTo_40 ?_
      refine s_icmp_ne O (tgt := 48) dX0_goesTo_41 (by decide) ?_ ?_
      · refine s_iconst O (x := 0) (by decide) dX0_goesTo_48 ?_
        exact s_zreturnK O hr rfl rfl dX0_goesTo_49
      · refine s_iconst O (x := 1) (by decide) dX0_goesTo_44 ?_
        refine s_goto O (tgt := 49) dX0_goesTo_45 (by decide) ?_
        exact s_zreturnK O hr rfl rfl dX0_goesTo_49
    · refine s_iconst O (x := 0) (by decide) dX0_goesTo_22 ?_
      exact s_zreturnK O hr rfl rfl dX0_goesTo_23
theorem mt_X0_goesTo (l : Launch) (G : XG) (hfl : l.stackTraces = false) (hg : G.2.2.2.2 = zAll G.1.1 G.1.2.2.2 G.2.2.2.1) : ∀ (n : Nat) (o : Nat) (x1 : Int32) (x2 : Int32) (s t : XS) (v : Int32) (h : x0_goesTo n o x1 x2 s = some (v, t)), xMet l yX0_goesTo (ws_ yX0_goesTo cX0_goesTo 3 (some .boolean)) (5 + n) (112 + 22 * n) G (xI s) [.ref o, .int x1, .int x2] (eI v) (xI t) := by
  intro n
  induction n with
  | zero => intro o x1 x2 s t v h; cases h
  | succ n ih =>
    intro o x1 x2 s t v h
    exact xMet_of (E := xI) (enc := eI) (fr := 5 + (n + 1)) (lo := 112 + 22 * (n + 1)) (by decide +kernel) (Nat.le_of_ble_eq_true rfl) (fun X hl hG O hr hm => by subst hl; subst hG; exact wk_X0_goesTo O (fr0 := 5 + n) (lo0 := 112 + 22 * n) ⟨by omega, by omega⟩ ⟨by omega, by omega⟩ hfl hg hr hm (x0_goesTo n) ih o x1 x2 s) h
theorem hd_X0_part : yX0_part.cls ≠ "java/lang/invoke/MethodHandle" ∧ yX0_part.cls ≠ "java/lang/invoke/VarHandle" ∧ (parseMethodDescriptor yX0_part.desc).map (fun d => d.parameters.length) = some 2 := by decide +kernel
theorem hv_X0_part : yX0_part.cls = RX0 ∧ yX0_part.cls ≠ "java/lang/invoke/MethodHandle" ∧ yX0_part.cls ≠ "java/lang/invoke/VarHandle" ∧ (parseMethodDescriptor yX0_part.desc).map (fun d => d.parameters.length) = some 2 := ⟨rfl, hd_X0_part⟩
theorem hu_X0_part : yX0_part.name ≠ "<init>" ∧ (parseMethodDescriptor yX0_part.desc).map (fun d => d.parameters.length) = some 2 := ⟨by decide +kernel, hd_X0_part.2.2⟩
set_option maxHeartbeats 4000000 in
set_option maxRecDepth 100000 in
theorem wk_X0_part {X : XC} (O : XOk X cX0_part RX0 12 266) (hfl : (xL X).stackTraces = false) (hg : (xG X).2.2.2.2 = zAll (xG X).1.1 (xG X).1.2.2.2 (xG X).2.2.2.1) (hr : (xMeth X).sig.returnType = (some .int)) (hm : (xC X).maxLocals = 4) (o : Nat) (x1 : Int32) (x2 : Int32) (s : XS) : Sim X xI (retC X eI xI) 0 [(0, .ref o), (1, .int x1), (2, .int x2)] [] s (x0_part o x1 x2 s) := by
  have hzz := O.hst
  rw [hg] at hzz
  unfold x0_part
  refine s_aload_n O 0 rfl rfl dX0_part_0 ?_
  refine s_iconst O (x := 0) (by decide) dX0_part_1 ?_
  refine x_put O (ci := 0) (T := TX0) (N := 20) (ty := .int) in_X0 tyX0 tyX0_ok nmX0 rfl 11 (by decide) q242 (fun _ h => h) rfl (by decide +kernel) rfl rfl dX0_part_2 (fun s1 => ?_)
  refine s_aload_n O 0 rfl rfl dX0_part_5 ?_
  refine s_iconst O (x := 0) (by decide) dX0_part_6 ?_
  refine s_iload_n O 1 rfl rfl dX0_part_7 ?_
  refine x_callV O (enc2 := eI) (ci := 0) (av := [.int 0, .int x1]) (rest := []) 2 (fun v0 t0 h0 => mt_X0_goesTo (xL X) (xG X) hfl hg 6 o 0 x1 _ t0 v0 h0) (lw_V q1186 q1188 qs34 q131 q1189) hv_X0_goesTo ⟨Nat.le_of_ble_eq_true rfl, Nat.le_of_ble_eq_true rfl⟩ rfl rfl (Nat.le_of_ble_eq_true rfl) dX0_part_8 (fun v2 s3 => ?_)
  refine s_istore_n O (L' := [(3, .int v2), (0, .ref o), (1, .int x1), (2, .int x2)]) hm (by decide) rfl rfl dX0_part_11 ?_
  refine s_iload_n O 2 rfl rfl dX0_part_12 ?_
  refine s_iconst O (x := (-1)) (by decide) dX0_part_13 ?_
  refine s_icmp_ne O (tgt := 22) dX0_part_14 (by decide) ?_ ?_
  · refine s_iload_n O 0 rfl rfl dX0_part_22 ?_
    refine s_if_eq O (tgt := 45) dX0_part_23 (by decide) ?_ ?_
    · refine s_iconst O (x := (-1)) (by decide) dX0_part_45 ?_
      refine s_goto O (tgt := 70) dX0_part_46 (by decide) ?_
      exact s_ireturn O hr rfl dX0_part_70
    · refine s_iload_n O 3 rfl rfl dX0_part_26 ?_
      refine s_i2l O dX0_part_27 ?_
      refine s_lconst O (x := 0) (by decide) dX0_part_28 ?_
      refine s_aload_n O 1 rfl rfl dX0_part_29 ?_
      refine x_get O (ci := 0) (T := TX0) (N := 20) in_X0 rfl 3 (by decide) q234 (fun _ h => h) dX0_part_30 (fun v0 => ?_)
      refine s_vR (fun r4 => ?_)
      refine s_dr (fun p5 hp6 => ?_)
      subst hp6
      refine x_getN O (ci := 1) (T := TX1) (N := 6) in_X1 rfl 0 (by decide) (zf_q206 hzz) (fun _ h => h) dX0_part_33 (fun v0 => ?_)
      refine s_vI (fun u7 => ?_)
      refine s_iconst O (x := 1) (by decide) dX0_part_36 ?_
      refine s_isub O dX0_part_37 ?_
      refine s_i2l O dX0_part_38 ?_
      refine s_callP O (enc2 := eI) (av := [.long x2.toInt64, .long 0, .long ((u7 - 1).toInt64)]) (rest := []) 3 (fun v0 h0 => mt_X0_isIn (xL X) (xG X) _ x2.toInt64 0 ((u7 - 1).toInt64) v0 h0) (lw_S q317 q318 q131 q319) hd_X0_isIn ⟨Nat.le_of_ble_eq_true rfl, Nat.le_of_ble_eq_true rfl⟩ rfl (Nat.le_of_ble_eq_true rfl) dX0_part_39 (fun v8 => ?_)
      refine s_if_ne O (tgt := 49) dX0_part_42 (by decide) ?_ ?_
      · refine s_aload_n O 1 rfl rfl dX0_part_49 ?_
        refine x_get O (ci := 0) (T := TX0) (N := 20) in_X0 rfl 10 (by decide) q241 (fun _ h => h) dX0_part_50 (fun v0 => ?_)
        refine s_vR (fun r10 => ?_)
        refine s_iload_n O 3 rfl rfl dX0_part_53 ?_
        refine s_dr (fun p11 hp12 => ?_)
        subst hp12
        refine x_iald O dX0_part_54 (fun u13 => ?_)
        refine s_bipush O (x := 8) (by decide) dX0_part_55 ?_
        refine s_icmp_le O (tgt := 64) dX0_part_57 (by decide) ?_ ?_
        · refine s_aload_n O 1 rfl rfl dX0_part_64 ?_
          refine x_get O (ci := 0) (T := TX0) (N := 20) in_X0 rfl 10 (by decide) q241 (fun _ h => h) dX0_part_65 (fun v0 => ?_)
          refine s_vR (fun r14 => ?_)
          refine s_iload_n O 3 rfl rfl dX0_part_68 ?_
          refine s_dr (fun p15 hp16 => ?_)
          subst hp16
          refine x_iald O dX0_part_69 (fun u17 => ?_)
          exact s_ireturn O hr rfl dX0_part_70
        · refine s_iconst O (x := 0) (by decide) dX0_part_60 ?_
          refine s_goto O (tgt := 70) dX0_part_61 (by decide) ?_
          exact s_ireturn O hr rfl dX0_part_70
      · refine s_iconst O (x := (-1)) (by decide) dX0_part_45 ?_
        refine s_goto O (tgt := 70) dX0_part_46 (by decide) ?_
        exact s_ireturn O hr rfl dX0_part_70
  · refine s_aload_n O 1 rfl rfl dX0_part_17 ?_
    refine x_get O (ci := 0) (T := TX0) (N := 20) in_X0 rfl 11 (by decide) q242 (fun _ h => h) dX0_part_18 (fun v0 => ?_)
    refine s_vI (fun u18 => ?_)
    exact s_ireturn O hr rfl dX0_part_21
theorem mt_X0_part (l : Launch) (G : XG) (hfl : l.stackTraces = false) (hg : G.2.2.2.2 = zAll G.1.1 G.1.2.2.2 G.2.2.2.1) (o : Nat) (x1 : Int32) (x2 : Int32) (s t : XS) (v : Int32) (h : x0_part o x1 x2 s = some (v, t)) : xMet l yX0_part (ws_ yX0_part cX0_part 4 (some .int)) 12 266 G (xI s) [.ref o, .int x1, .int x2] (eI v) (xI t) :=
  xMet_of (E := xI) (enc := eI) (by decide +kernel) (Nat.le_of_ble_eq_true rfl) (fun X hl hG O hr hm => by subst hl; subst hG; exact wk_X0_part O hfl hg hr hm o x1 x2 s) h
theorem hd_X0_pure : yX0_pure.cls ≠ "java/lang/invoke/MethodHandle" ∧ yX0_pure.cls ≠ "java/lang/invoke/VarHandle" ∧ (parseMethodDescriptor yX0_pure.desc).map (fun d => d.parameters.length) = some 1 := by decide +kernel
theorem hv_X0_pure : yX0_pure.cls = RX0 ∧ yX0_pure.cls ≠ "java/lang/invoke/MethodHandle" ∧ yX0_pure.cls ≠ "java/lang/invoke/VarHandle" ∧ (parseMethodDescriptor yX0_pure.desc).map (fun d => d.parameters.length) = some 1 := ⟨rfl, hd_X0_pure⟩
theorem hu_X0_pure : yX0_pure.name ≠ "<init>" ∧ (parseMethodDescriptor yX0_pure.desc).map (fun d => d.parameters.length) = some 1 := ⟨by decide +kernel, hd_X0_pure.2.2⟩
set_option maxHeartbeats 4000000 in
set_option maxRecDepth 100000 in
theorem wk_X0_pure {X : XC} (O : XOk X cX0_pure RX0 4 86) (hfl : (xL X).stackTraces = false) (hg : (xG X).2.2.2.2 = zAll (xG X).1.1 (xG X).1.2.2.2 (xG X).2.2.2.1) (hr : (xMeth X).sig.returnType = (some .int)) (hm : (xC X).maxLocals = 3) (o : Nat) (x1 : Int32) (s : XS) : Sim X xI (retC X eI xI) 0 [(0, .ref o), (1, .int x1)] [] s (x0_pure o x1 s) := by
  have hzz := O.hst
  rw [hg] at hzz
  unfold x0_pure
  refine s_iload_n O 1 rfl rfl dX0_pure_0 ?_
  refine s_i2l O dX0_pure_1 ?_
  refine s_lconst O (x := 0) (by decide) dX0_pure_2 ?_
  refine s_aload_n O 0 rfl rfl dX0_pure_3 ?_
  refine x_get O (ci := 0) (T := TX0) (N := 20) in_X0 rfl 3 (by decide) q234 (fun _ h => h) dX0_pure_4 (fun v0 => ?_)
  refine s_vR (fun r1 => ?_)
  refine s_dr (fun p2 hp3 => ?_)
  subst hp3
  refine x_getN O (ci := 1) (T := TX1) (N := 6) in_X1 rfl 0 (by decide) (zf_q206 hzz) (fun _ h => h) dX0_pure_7 (fun v0 => ?_)
  refine s_vI (fun u4 => ?_)
  refine s_iconst O (x := 1) (by decide) dX0_pure_10 ?_
  refine s_isub O dX0_pure_11 ?_
  refine s_i2l O dX0_pure_12 ?_
  refine s_callP O (enc2 := eI) (av := [.long x1.toInt64, .long 0, .long ((u4 - 1).toInt64)]) (rest := []) 3 (fun v0 h0 => mt_X0_isIn (xL X) (xG X) _ x1.toInt64 0 ((u4 - 1).toInt64) v0 h0) (lw_S q317 q318 q131 q319) hd_X0_isIn ⟨Nat.le_of_ble_eq_true rfl, Nat.le_of_ble_eq_true rfl⟩ rfl (Nat.le_of_ble_eq_true rfl) dX0_pure_13 (fun v5 => ?_)
  refine s_if_ne O (tgt := 21) dX0_pure_16 (by decide) ?_ ?_
  · refine s_iconst O (x := 4) (by decide) dX0_pure_21 ?_
    refine x_newI O q204 dX0_pure_22 (fun p7 s8 => ?_)
    refine s_astore_n O (L' := [(2, .ref p7), (0, .ref o), (1, .int x1)]) hm (by decide) rfl rfl dX0_pure_24 ?_
    refine Sim.sub (L' := [(0, .ref o), (1, .int x1), (2, .ref p7)]) [1, 2, 0] rfl ?_
    refine s_while (A := Unit) (B := (Unit) ⊕ (Unit)) (La := fun _ => [(0, .ref o), (1, .int x1), (2, .ref p7)]) (We := fun bb0 s18 => match bb0 with | .inl b25 => xWX X 44 [(1, .int x1), (2, .ref p7)] [] ((xI) s18) | .inr b25 => xWX X 58 [] [] ((xI) s18)) rfl rfl ?_ ?_
    · intro Cl hn he a25 s9
      unfold x0_pure_s25
      refine s_aload_n O 2 rfl rfl dX0_pure_25 ?_
      refine s_iload_n O 1 rfl rfl dX0_pure_26 ?_
      refine x_iald O dX0_pure_27 (fun u10 => ?_)
      refine s_bipush O (x := 8) (by decide) dX0_pure_28 ?_
      refine s_icmp_gt O (tgt := 58) dX0_pure_30 (by decide) ?_ ?_
      · refine Sim.sub (L' := []) [] rfl ?_
        exact Sim.ret (he _ _)
      · refine s_aload_n O 0 rfl rfl dX0_pure_33 ?_
        refine x_get O (ci := 0) (T := TX0) (N := 20) in_X0 rfl 3 (by decide) q234 (fun _ h => h) dX0_pure_34 (fun v0 => ?_)
        refine s_vR (fun r11 => ?_)
        refine s_aload_n O 2 rfl rfl dX0_pure_37 ?_
        refine s_dr (fun p12 hp13 => ?_)
        subst hp13
        refine x_callV O (enc2 := eI) (ci := 1) (av := [.ref p7]) (rest := []) 1 (fun v0 t0 h0 => mt_X1_covers (xL X) (xG X) hfl hg p12 p7 _ t0 v0 h0) (lw_V q979 q835 q836 q132 q837) hv_X1_covers ⟨Nat.le_of_ble_eq_true rfl, Nat.le_of_ble_eq_true rfl⟩ rfl rfl (Nat.le_of_ble_eq_true rfl) dX0_pure_38 (fun v14 s15 => ?_)
        refine s_if_eq O (tgt := 48) dX0_pure_41 (by decide) ?_ ?_
        · refine s_aload_n O 2 rfl rfl dX0_pure_48 ?_
          refine s_iload_n O 1 rfl rfl dX0_pure_49 ?_
          refine s_dup2 O rfl rfl dX0_pure_50 ?_
          refine x_iald O dX0_pure_51 (fun u16 => ?_)
          refine s_iconst O (x := 1) (by decide) dX0_pure_52 ?_
          refine s_iadd O dX0_pure_53 ?_
          refine x_iast O dX0_pure_54 (fun s17 => ?_)
          refine s_goto O (tgt := 25) dX0_pure_55 (by decide) ?_
          exact Sim.ret (hn _ _)
        · refine Sim.sub (L' := [(1, .int x1), (2, .ref p7)]) [1, 2] rfl ?_
          exact Sim.ret (he _ _)
    · intro bb0 s18
      rcases bb0 with b25 | b25
      · show Sim X (xI) (retC X eI xI) 44 [(1, .int x1), (2, .ref p7)] [] s18 _
        dsimp only
        refine s_aload_n O 1 rfl rfl dX0_pure_44 ?_
        refine s_iload_n O 0 rfl rfl dX0_pure_45 ?_
        refine x_iald O dX0_pure_46 (fun u19 => ?_)
        exact s_ireturn O hr rfl dX0_pure_47
      · show Sim X (xI) (retC X eI xI) 58 [] [] s18 _
        dsimp only
        refine s_iconst O (x := (-1)) (by decide) dX0_pure_58 ?_
        exact s_ireturn O hr rfl dX0_pure_59
  · refine s_iconst O (x := (-1)) (by decide) dX0_pure_19 ?_
    exact s_ireturn O hr rfl dX0_pure_20
theorem mt_X0_pure (l : Launch) (G : XG) (hfl : l.stackTraces = false) (hg : G.2.2.2.2 = zAll G.1.1 G.1.2.2.2 G.2.2.2.1) (o : Nat) (x1 : Int32) (s t : XS) (v : Int32) (h : x0_pure o x1 s = some (v, t)) : xMet l yX0_pure (ws_ yX0_pure cX0_pure 3 (some .int)) 4 86 G (xI s) [.ref o, .int x1] (eI v) (xI t) :=
  xMet_of (E := xI) (enc := eI) (by decide +kernel) (Nat.le_of_ble_eq_true rfl) (fun X hl hG O hr hm => by subst hl; subst hG; exact wk_X0_pure O hfl hg hr hm o x1 s) h
theorem hd_X0_lacking : yX0_lacking.cls ≠ "java/lang/invoke/MethodHandle" ∧ yX0_lacking.cls ≠ "java/lang/invoke/VarHandle" ∧ (parseMethodDescriptor yX0_lacking.desc).map (fun d => d.parameters.length) = some 1 := by decide +kernel
theorem hv_X0_lacking : yX0_lacking.cls = RX0 ∧ yX0_lacking.cls ≠ "java/lang/invoke/MethodHandle" ∧ yX0_lacking.cls ≠ "java/lang/invoke/VarHandle" ∧ (parseMethodDescriptor yX0_lacking.desc).map (fun d => d.parameters.length) = some 1 := ⟨rfl, hd_X0_lacking⟩
theorem hu_X0_lacking : yX0_lacking.name ≠ "<init>" ∧ (parseMethodDescriptor yX0_lacking.desc).map (fun d => d.parameters.length) = some 1 := ⟨by decide +kernel, hd_X0_lacking.2.2⟩
set_option maxHeartbeats 4000000 in
set_option maxRecDepth 100000 in
theorem wk_X0_lacking {X : XC} (O : XOk X cX0_lacking RX0 4 86) (hfl : (xL X).stackTraces = false) (hg : (xG X).2.2.2.2 = zAll (xG X).1.1 (xG X).1.2.2.2 (xG X).2.2.2.1) (hr : (xMeth X).sig.returnType = (some (.object "QuotientRows$Mono"))) (hm : (xC X).maxLocals = 6) (x0 : Nat) (s : XS) : Sim X xI (retC X eR xI) 0 [(0, .ref x0)] [] s (x0_lacking x0 s) := by
  have hzz := O.hst
  rw [hg] at hzz
  unfold x0_lacking
  refine s_iconst O (x := 4) (by decide) dX0_lacking_0 ?_
  refine x_newI O q204 dX0_lacking_1 (fun p1 s2 => ?_)
  refine s_astore_n O (L' := [(1, .ref p1), (0, .ref x0)]) hm (by decide) rfl rfl dX0_lacking_3 ?_
  refine s_aload_n O 1 rfl rfl dX0_lacking_4 ?_
  refine x_getN O (ci := 1) (T := TX1) (N := 6) in_X1 rfl 1 (by decide) (zf_q208 hzz) (fun _ h => h) dX0_lacking_5 (fun v0 => ?_)
  refine s_vR (fun r3 => ?_)
  refine s_dr (fun p4 hp5 => ?_)
  subst hp5
  refine x_callF O (enc2 := eR) (ci := 7) (av := []) (rest := []) 0 (fun v0 t0 h0 => mt_J2_iterator (xL X) (xG X) hfl hg p4 _ t0 v0 h0) (lw_F q1210 q782 q784 q135 q786) (zw_2 hzz) hf_J2_iterator ⟨Nat.le_of_ble_eq_true rfl, Nat.le_of_ble_eq_true rfl⟩ rfl rfl (Nat.le_of_ble_eq_true rfl) dX0_lacking_8 (fun r6 s7 => ?_)
  refine s_astore_nQ O (r := r6) (L' := [(1, .ref p1), (0, .ref x0)]) rfl hm (by decide) (fun _ => rfl) dX0_lacking_13 ?_
  refine Sim.sub (L' := [(0, .ref x0), (1, .ref p1), (2, va_rf r6)]) [2, 1, 0] rfl ?_
  refine s_while (A := Unit) (B := (Unit) ⊕ (Unit)) (La := fun _ => [(0, .ref x0), (1, .ref p1), (2, va_rf r6)]) (We := fun bb0 s36 => match bb0 with | .inl b14 => xWX X 100 [(1, .ref p1)] [] ((xI) s36) | .inr b14 => xWX X 124 [] [] ((xI) s36)) rfl rfl ?_ ?_
  · intro Cl hn he a14 s8
    unfold x0_lacking_s14
    refine s_aload_nQ O 2 rfl rfl dX0_lacking_14 ?_
    refine s_dr (fun p9 hp10 => ?_)
    subst hp10
    refine x_callF O (enc2 := eI) (ci := 8) (av := []) (rest := []) 0 (fun v0 t0 h0 => mt_J14_hasNext (xL X) (xG X) hfl hg p9 _ t0 v0 h0) (lw_F q1212 q811 q813 q152 q815) (zw_7 hzz) hf_J14_hasNext ⟨Nat.le_of_ble_eq_true rfl, Nat.le_of_ble_eq_true rfl⟩ rfl rfl (Nat.le_of_ble_eq_true rfl) dX0_lacking_15 (fun v11 s12 => ?_)
    refine s_if_eq O (tgt := 124) dX0_lacking_20 (by decide) ?_ ?_
    · refine Sim.sub (L' := []) [] rfl ?_
      exact Sim.ret (he _ _)
    · refine s_aload_n O 2 rfl rfl dX0_lacking_23 ?_
      refine x_callF O (enc2 := eR) (ci := 8) (av := []) (rest := []) 0 (fun v0 t0 h0 => mt_J14_next (xL X) (xG X) hfl hg p9 _ t0 v0 h0) (lw_F q1214 q820 q822 q152 q824) (zw_8 hzz) hf_J14_next ⟨Nat.le_of_ble_eq_true rfl, Nat.le_of_ble_eq_true rfl⟩ rfl rfl (Nat.le_of_ble_eq_true rfl) dX0_lacking_24 (fun r13 s14 => ?_)
      refine s_dr (fun p15 hp16 => ?_)
      subst hp16
      refine x_cast O (ci := 5) rfl q945 dX0_lacking_29 ?_
      refine s_astore_n O (L' := [(3, .ref p15), (0, .ref x0), (1, .ref p1), (2, .ref p9)]) hm (by decide) rfl rfl dX0_lacking_32 ?_
      refine s_iconst O (x := 1) (by decide) dX0_lacking_33 ?_
      refine s_istore O (L' := [(4, .int 1), (3, .ref p15), (0, .ref x0), (1, .ref p1), (2, .ref p9)]) hm (by decide) rfl dX0_lacking_34 ?_
      refine Sim.sub (L' := [(0, .ref x0), (1, .ref p1), (2, .ref p9), (3, .ref p15), (4, .int 1)]) [2, 3, 4, 1, 0] rfl ?_
      refine s_while (A := Int32) (B := (Unit) ⊕ (Unit)) (La := fun a36 => [(0, .ref x0), (1, .ref p1), (2, .ref p9), (3, .ref p15), (4, .int a36)]) (We := fun bb0 s35 => match bb0 with | .inl b36 => xWX X 100 [(1, .ref p1)] [] ((xI) s35) | .inr b36 => xWX X 121 [(0, .ref x0), (1, .ref p1), (2, .ref p9)] [] ((xI) s35)) rfl rfl ?_ ?_
      · intro Cl hn he a36 s17
        unfold x0_lacking_s36
        refine s_iload O 4 rfl dX0_lacking_36 ?_
        refine s_aload_n O 0 rfl rfl dX0_lacking_38 ?_
        refine x_getN O (ci := 1) (T := TX1) (N := 6) in_X1 rfl 0 (by decide) (zf_q206 hzz) (fun _ h => h) dX0_lacking_39 (fun v0 => ?_)
        refine s_vI (fun u18 => ?_)
        refine s_icmp_ge O (tgt := 121) dX0_lacking_42 (by decide) ?_ ?_
        · refine Sim.sub (L' := [(0, .ref x0), (1, .ref p1), (2, .ref p9)]) [0, 1, 2] rfl ?_
          exact Sim.ret (he _ _)
        · refine s_iconst O (x := 0) (by decide) dX0_lacking_45 ?_
          refine s_istore O (L' := [(5, .int 0), (0, .ref x0), (1, .ref p1), (2, .ref p9), (3, .ref p15), (4, .int a36)]) hm (by decide) rfl dX0_lacking_46 ?_
          refine Sim.sub (L' := [(0, .ref x0), (1, .ref p1), (2, .ref p9), (3, .ref p15), (4, .int a36), (5, .int 0)]) [1, 2, 3, 4, 5, 0] rfl ?_
          refine s_while (A := Int32) (B := (Unit) ⊕ (Unit)) (La := fun a48 => [(0, .ref x0), (1, .ref p1), (2, .ref p9), (3, .ref p15), (4, .int a36), (5, .int a48)]) (We := fun bb0 s34 => match bb0 with | .inl b48 => xWX X 100 [(1, .ref p1)] [] ((xI) s34) | .inr b48 => xWX X 115 [(0, .ref x0), (1, .ref p1), (2, .ref p9), (3, .ref p15), (4, .int a36)] [] ((xI) s34)) rfl rfl ?_ ?_
          · intro Cl hn he a48 s19
            unfold x0_lacking_s48
            refine s_iload O 5 rfl dX0_lacking_48 ?_
            refine s_iload O 4 rfl dX0_lacking_50 ?_
            refine s_icmp_ge O (tgt := 115) dX0_lacking_52 (by decide) ?_ ?_
            · refine Sim.sub (L' := [(0, .ref x0), (1, .ref p1), (2, .ref p9), (3, .ref p15), (4, .int a36)]) [0, 1, 2, 3, 4] rfl ?_
              exact Sim.ret (he _ _)
            · refine s_aload_n O 3 rfl rfl dX0_lacking_55 ?_
              refine x_getN O (ci := 5) (T := TX5) (N := 2) in_X5 rfl 0 (by decide) (zf_q708 hzz) (fun _ h => h) dX0_lacking_56 (fun v0 => ?_)
              refine s_vR (fun r20 => ?_)
              refine s_iload O 4 rfl dX0_lacking_59 ?_
              refine s_dr (fun p21 hp22 => ?_)
              subst hp22
              refine x_iald O dX0_lacking_61 (fun u23 => ?_)
              refine s_if_le O (tgt := 115) dX0_lacking_62 (by decide) ?_ ?_
              · refine Sim.sub (L' := [(0, .ref x0), (1, .ref p1), (2, .ref p9), (3, .ref p15), (4, .int a36)]) [0, 1, 2, 3, 4] rfl ?_
                exact Sim.ret (he _ _)
              · refine s_aload_n O 3 rfl rfl dX0_lacking_65 ?_
                refine x_getN O (ci := 5) (T := TX5) (N := 2) in_X5 rfl 0 (by decide) (zf_q708 hzz) (fun _ h => h) dX0_lacking_66 (fun v0 => ?_)
                refine s_vR (fun r24 => ?_)
                refine s_iconst O (x := 0) (by decide) dX0_lacking_69 ?_
                refine s_aload_n O 1 rfl rfl dX0_lacking_70 ?_
                refine s_iconst O (x := 0) (by decide) dX0_lacking_71 ?_
                refine s_iconst O (x := 4) (by decide) dX0_lacking_72 ?_
                refine s_dr (fun p25 hp26 => ?_)
                subst hp26
                refine x_acI O (t := 0) (by decide) q1163 q459 q458 q145 ⟨Nat.le_of_ble_eq_true rfl, by decide⟩ (Nat.le_of_ble_eq_true rfl) dX0_lacking_73 (fun s27 => ?_)
                refine s_aload_n O 1 rfl rfl dX0_lacking_76 ?_
                refine s_iload O 4 rfl dX0_lacking_77 ?_
                refine s_dup2 O rfl rfl dX0_lacking_79 ?_
                refine x_iald O dX0_lacking_80 (fun u28 => ?_)
                refine s_iconst O (x := 1) (by decide) dX0_lacking_81 ?_
                refine s_isub O dX0_lacking_82 ?_
                refine x_iast O dX0_lacking_83 (fun s29 => ?_)
                refine s_aload_n O 1 rfl rfl dX0_lacking_84 ?_
                refine s_iload O 5 rfl dX0_lacking_85 ?_
                refine s_dup2 O rfl rfl dX0_lacking_87 ?_
                refine x_iald O dX0_lacking_88 (fun u30 => ?_)
                refine s_iconst O (x := 1) (by decide) dX0_lacking_89 ?_
                refine s_iadd O dX0_lacking_90 ?_
                refine x_iast O dX0_lacking_91 (fun s31 => ?_)
                refine s_aload_n O 0 rfl rfl dX0_lacking_92 ?_
                refine s_aload_n O 1 rfl rfl dX0_lacking_93 ?_
                refine x_callV O (enc2 := eI) (ci := 1) (av := [.ref p1]) (rest := []) 1 (fun v0 t0 h0 => mt_X1_covers (xL X) (xG X) hfl hg x0 p1 _ t0 v0 h0) (lw_V q979 q835 q836 q132 q837) hv_X1_covers ⟨Nat.le_of_ble_eq_true rfl, Nat.le_of_ble_eq_true rfl⟩ rfl rfl (Nat.le_of_ble_eq_true rfl) dX0_lacking_94 (fun v32 s33 => ?_)
                refine s_if_ne O (tgt := 109) dX0_lacking_97 (by decide) ?_ ?_
                · refine s_iinc O (y := (a48 + 1)) (L' := [(5, .int (a48 + 1)), (0, .ref x0), (1, .ref p1), (2, .ref p9), (3, .ref p15), (4, .int a36)]) 5 rfl hm (by decide) rfl rfl dX0_lacking_109 ?_
                  refine s_goto O (tgt := 48) dX0_lacking_112 (by decide) ?_
                  refine Sim.sub (L' := [(0, .ref x0), (1, .ref p1), (2, .ref p9), (3, .ref p15), (4, .int a36), (5, .int (a48 + 1))]) [1, 2, 3, 4, 5, 0] rfl ?_
                  exact Sim.ret (hn _ _)
                · refine Sim.sub (L' := [(1, .ref p1)]) [1] rfl ?_
                  exact Sim.ret (he _ _)
          · intro bb0 s34
            rcases bb0 with b48 | b48
            · show Sim X (xI) Cl 100 [(1, .ref p1)] [] s34 _
              dsimp only
              exact Sim.ret (he _ _)
            · show Sim X (xI) Cl 115 [(0, .ref x0), (1, .ref p1), (2, .ref p9), (3, .ref p15), (4, .int a36)] [] s34 _
              dsimp only
              refine s_iinc O (y := (a36 + 1)) (L' := [(4, .int (a36 + 1)), (0, .ref x0), (1, .ref p1), (2, .ref p9), (3, .ref p15)]) 4 rfl hm (by decide) rfl rfl dX0_lacking_115 ?_
              refine s_goto O (tgt := 36) dX0_lacking_118 (by decide) ?_
              refine Sim.sub (L' := [(0, .ref x0), (1, .ref p1), (2, .ref p9), (3, .ref p15), (4, .int (a36 + 1))]) [1, 2, 3, 4, 0] rfl ?_
              exact Sim.ret (hn _ _)
      · intro bb0 s35
        rcases bb0 with b36 | b36
        · show Sim X (xI) Cl 100 [(1, .ref p1)] [] s35 _
          dsimp only
          exact Sim.ret (he _ _)
        · show Sim X (xI) Cl 121 [(0, .ref x0), (1, .ref p1), (2, .ref p9)] [] s35 _
          dsimp only
          refine s_goto O (tgt := 14) dX0_lacking_121 (by decide) ?_
          exact Sim.ret (hn _ _)
  · intro bb0 s36
    rcases bb0 with b14 | b14
    · show Sim X (xI) (retC X eR xI) 100 [(1, .ref p1)] [] s36 _
      dsimp only
      refine x_new O (ci := 5) (T := TX5) (N := 2) (fs := dfX5) in_X5 tyX5 tyX5_ok rfl 2 q945 q701 q151 rfl dfX5_ok dX0_lacking_100 (fun p37 s38 => ?_)
      refine s_dup O rfl dX0_lacking_103 ?_
      refine s_aload_n O 0 rfl rfl dX0_lacking_104 ?_
      refine x_callI O (enc2 := eU) (av := [.ref p1]) (rest := [.ref p37]) 1 (fun v0 t0 h0 => mt_X5_init (xL X) (xG X) hfl hg p37 p1 _ t0 v0 h0) q704 q151 q961 q703 rfl hd_X5_init ⟨Nat.le_of_ble_eq_true rfl, Nat.le_of_ble_eq_true rfl⟩ rfl (Nat.le_of_ble_eq_true rfl) dX0_lacking_105 (fun v39 s40 => ?_)
      exact s_areturnQ O (r := (some p37)) hr (Or.inl ⟨_, rfl⟩) rfl dX0_lacking_108
    · show Sim X (xI) (retC X eR xI) 124 [] [] s36 _
      dsimp only
      refine s_null O dX0_lacking_124 ?_
      exact s_areturnQ O (r := none) hr (Or.inl ⟨_, rfl⟩) rfl dX0_lacking_125
theorem mt_X0_lacking (l : Launch) (G : XG) (hfl : l.stackTraces = false) (hg : G.2.2.2.2 = zAll G.1.1 G.1.2.2.2 G.2.2.2.1) (x0 : Nat) (s t : XS) (v : Option Nat) (h : x0_lacking x0 s = some (v, t)) : xMet l yX0_lacking (ws_ yX0_lacking cX0_lacking 6 (some (.object "QuotientRows$Mono"))) 4 86 G (xI s) [.ref x0] (eR v) (xI t) :=
  xMet_of (E := xI) (enc := eR) (by decide +kernel) (Nat.le_of_ble_eq_true rfl) (fun X hl hG O hr hm => by subst hl; subst hG; exact wk_X0_lacking O hfl hg hr hm x0 s) h
theorem hd_X0_level : yX0_level.cls ≠ "java/lang/invoke/MethodHandle" ∧ yX0_level.cls ≠ "java/lang/invoke/VarHandle" ∧ (parseMethodDescriptor yX0_level.desc).map (fun d => d.parameters.length) = some 0 := by decide +kernel
theorem hv_X0_level : yX0_level.cls = RX0 ∧ yX0_level.cls ≠ "java/lang/invoke/MethodHandle" ∧ yX0_level.cls ≠ "java/lang/invoke/VarHandle" ∧ (parseMethodDescriptor yX0_level.desc).map (fun d => d.parameters.length) = some 0 := ⟨rfl, hd_X0_level⟩
theorem hu_X0_level : yX0_level.name ≠ "<init>" ∧ (parseMethodDescriptor yX0_level.desc).map (fun d => d.parameters.length) = some 0 := ⟨by decide +kernel, hd_X0_level.2.2⟩
set_option maxHeartbeats 4000000 in
set_option maxRecDepth 100000 in
theorem wk_X0_level {X : XC} (O : XOk X cX0_level RX0 5 111) (hfl : (xL X).stackTraces = false) (hg : (xG X).2.2.2.2 = zAll (xG X).1.1 (xG X).1.2.2.2 (xG X).2.2.2.1) (hr : (xMeth X).sig.returnType = (some .int)) (hm : (xC X).maxLocals = 1) (o : Nat) (s : XS) : Sim X xI (retC X eI xI) 0 [(0, .ref o)] [] s (x0_level o s) := by
  have hzz := O.hst
  rw [hg] at hzz
  unfold x0_level
  refine s_aload_n O 0 rfl rfl dX0_level_0 ?_
  refine x_get O (ci := 0) (T := TX0) (N := 20) in_X0 rfl 3 (by decide) q234 (fun _ h => h) dX0_level_1 (fun v0 => ?_)
  refine s_vR (fun r1 => ?_)
  refine s_dr (fun p2 hp3 => ?_)
  subst hp3
  refine x_callS O (enc2 := eR) (av := [.ref p2]) (rest := []) 1 (fun v0 t0 h0 => mt_X0_lacking (xL X) (xG X) hfl hg p2 _ t0 v0 h0) (lw_S q1206 q1207 q131 q1208) hd_X0_lacking ⟨Nat.le_of_ble_eq_true rfl, Nat.le_of_ble_eq_true rfl⟩ rfl (Nat.le_of_ble_eq_true rfl) dX0_level_4 (fun r4 s5 => ?_)
  refine s_ifnonnull O (tgt := 14) dX0_level_7 (by decide) (fun p6 hr0 => ?_) (fun hr0 => ?_)
  · subst hr0
    refine s_iconst O (x := 0) (by decide) dX0_level_14 ?_
    refine s_callP O (enc2 := eI) (av := [.int 0]) (rest := []) 1 (fun v0 h0 => mt_X0_flag (xL X) (xG X) _ 0 v0 h0) (lw_S q913 q914 q131 q915) hd_X0_flag ⟨Nat.le_of_ble_eq_true rfl, Nat.le_of_ble_eq_true rfl⟩ rfl (Nat.le_of_ble_eq_true rfl) dX0_level_15 (fun v9 => ?_)
    exact s_ireturn O hr rfl dX0_level_18
  · subst hr0
    refine s_iconst O (x := 1) (by decide) dX0_level_10 ?_
    refine s_goto O (tgt := 15) dX0_level_11 (by decide) ?_
    refine s_callP O (enc2 := eI) (av := [.int 1]) (rest := []) 1 (fun v0 h0 => mt_X0_flag (xL X) (xG X) _ 1 v0 h0) (lw_S q913 q914 q131 q915) hd_X0_flag ⟨Nat.le_of_ble_eq_true rfl, Nat.le_of_ble_eq_true rfl⟩ rfl (Nat.le_of_ble_eq_true rfl) dX0_level_15 (fun v7 => ?_)
    exact s_ireturn O hr rfl dX0_level_18
theorem mt_X0_level (l : Launch) (G : XG) (hfl : l.stackTraces = false) (hg : G.2.2.2.2 = zAll G.1.1 G.1.2.2.2 G.2.2.2.1) (o : Nat) (s t : XS) (v : Int32) (h : x0_level o s = some (v, t)) : xMet l yX0_level (ws_ yX0_level cX0_level 1 (some .int)) 5 111 G (xI s) [.ref o] (eI v) (xI t) :=
  xMet_of (E := xI) (enc := eI) (by decide +kernel) (Nat.le_of_ble_eq_true rfl) (fun X hl hG O hr hm => by subst hl; subst hG; exact wk_X0_level O hfl hg hr hm o s) h
theorem hd_X0_choose : yX0_choose.cls ≠ "java/lang/invoke/MethodHandle" ∧ yX0_choose.cls ≠ "java/lang/invoke/VarHandle" ∧ (parseMethodDescriptor yX0_choose.desc).map (fun d => d.parameters.length) = some 2 := by decide +kernel
theorem hv_X0_choose : yX0_choose.cls = RX0 ∧ yX0_choose.cls ≠ "java/lang/invoke/MethodHandle" ∧ yX0_choose.cls ≠ "java/lang/invoke/VarHandle" ∧ (parseMethodDescriptor yX0_choose.desc).map (fun d => d.parameters.length) = some 2 := ⟨rfl, hd_X0_choose⟩
theorem hu_X0_choose : yX0_choose.name ≠ "<init>" ∧ (parseMethodDescriptor yX0_choose.desc).map (fun d => d.parameters.length) = some 2 := ⟨by decide +kernel, hd_X0_choose.2.2⟩
set_option maxHeartbeats 4000000 in
set_option maxRecDepth 100000 in
theorem wk_X0_choose {X : XC} (O : XOk X cX0_choose RX0 202 4656) (hfl : (xL X).stackTraces = false) (hg : (xG X).2.2.2.2 = zAll (xG X).1.1 (xG X).1.2.2.2 (xG X).2.2.2.1) (hr : (xMeth X).sig.returnType = (some .long)) (hm : (xC X).maxLocals = 4) (htab : (xC X).exceptionTable.toList = tableOf [(28, 35, 36, 89)]) (o : Nat) (x1 : Int32) (x2 : Int32) (s : XS) : Sim X xI (retC X eL xI) 0 [(0, .ref o), (1, .int x1), (2, .int x2)] [] s (x0_choose o x1 x2 s) := by
  have hzz := O.hst
  rw [hg] at hzz
  unfold x0_choose
  refine s_iload_n O 1 rfl rfl dX0_choose_0 ?_
  refine s_i2l O dX0_choose_1 ?_
  refine s_lconst O (x := 0) (by decide) dX0_choose_2 ?_
  refine s_ldc2 O (x := 1000) q1004 dX0_choose_3 ?_
  refine s_callP O (enc2 := eI) (av := [.long x1.toInt64, .long 0, .long 1000]) (rest := []) 3 (fun v0 h0 => mt_X0_isIn (xL X) (xG X) _ x1.toInt64 0 1000 v0 h0) (lw_S q317 q318 q131 q319) hd_X0_isIn ⟨Nat.le_of_ble_eq_true rfl, Nat.le_of_ble_eq_true rfl⟩ rfl (Nat.le_of_ble_eq_true rfl) dX0_choose_6 (fun v1 => ?_)
  refine s_if_eq O (tgt := 24) dX0_choose_9 (by decide) ?_ ?_
  · refine s_ldc2 O (x := (-1)) q1117 dX0_choose_24 ?_
    exact s_lreturn O hr rfl dX0_choose_27
  · refine s_iload_n O 2 rfl rfl dX0_choose_12 ?_
    refine s_i2l O dX0_choose_13 ?_
    refine s_lconst O (x := 0) (by decide) dX0_choose_14 ?_
    refine s_ldc2 O (x := 1000) q1004 dX0_choose_15 ?_
    refine s_callP O (enc2 := eI) (av := [.long x2.toInt64, .long 0, .long 1000]) (rest := []) 3 (fun v0 h0 => mt_X0_isIn (xL X) (xG X) _ x2.toInt64 0 1000 v0 h0) (lw_S q317 q318 q131 q319) hd_X0_isIn ⟨Nat.le_of_ble_eq_true rfl, Nat.le_of_ble_eq_true rfl⟩ rfl (Nat.le_of_ble_eq_true rfl) dX0_choose_18 (fun v3 => ?_)
    refine s_if_ne O (tgt := 28) dX0_choose_21 (by decide) ?_ ?_
    · refine s_iload_n O 1 rfl rfl dX0_choose_28 ?_
      refine s_i2l O dX0_choose_29 ?_
      refine s_iload_n O 2 rfl rfl dX0_choose_30 ?_
      refine s_i2l O dX0_choose_31 ?_
      refine x_callST O (enc2 := eL) (cj := 11) (av := [.long x1.toInt64, .long x2.toInt64]) (rest := []) 2 (fun v0 t0 h0 => mt_X0_ways (xL X) (xG X) hfl hg x1.toInt64 x2.toInt64 _ t0 v0 h0) (lw_S q1219 q1100 q131 q1101) hd_X0_ways ⟨Nat.le_of_ble_eq_true rfl, Nat.le_of_ble_eq_true rfl⟩ rfl (Nat.le_of_ble_eq_true rfl) dX0_choose_32 (fun v5 s6 => ?_) (fun p7 s8 => ?_)
      · exact s_lreturn O hr rfl dX0_choose_35
      · refine sx_catch O (ci := 11) (r := (RJ17, TJ17, 6)) (name := "java/lang/ArithmeticException") (hpc := 36) htab ⟨28, 35, 36, 89⟩ [] rfl (by decide) (by decide) q1041 rfl (zc_q1061 hzz) rfl ?_
        refine s_astore_n O (L' := [(3, .ref p7), (0, .ref o), (1, .int x1), (2, .int x2)]) hm (by decide) rfl rfl dX0_choose_36 ?_
        refine s_ldc2 O (x := (-2)) q1116 dX0_choose_37 ?_
        exact s_lreturn O hr rfl dX0_choose_40
    · refine s_ldc2 O (x := (-1)) q1117 dX0_choose_24 ?_
      exact s_lreturn O hr rfl dX0_choose_27
theorem mt_X0_choose (l : Launch) (G : XG) (hfl : l.stackTraces = false) (hg : G.2.2.2.2 = zAll G.1.1 G.1.2.2.2 G.2.2.2.1) (o : Nat) (x1 : Int32) (x2 : Int32) (s t : XS) (v : Int64) (h : x0_choose o x1 x2 s = some (v, t)) : xMet l yX0_choose (wsW_ yX0_choose cX0_choose 4 (some .long) [(28, 35, 36, 89)]) 202 4656 G (xI s) [.ref o, .int x1, .int x2] (eL v) (xI t) :=
  xMet_ofH (E := xI) (enc := eL) (by decide +kernel) (Nat.le_of_ble_eq_true rfl) (fun X hl hG O hr hm htab => by subst hl; subst hG; exact wk_X0_choose O hfl hg hr hm htab o x1 x2 s) h
theorem hd_X0_canExpand : yX0_canExpand.cls ≠ "java/lang/invoke/MethodHandle" ∧ yX0_canExpand.cls ≠ "java/lang/invoke/VarHandle" ∧ (parseMethodDescriptor yX0_canExpand.desc).map (fun d => d.parameters.length) = some 2 := by decide +kernel
set_option maxHeartbeats 4000000 in
set_option maxRecDepth 100000 in
theorem wk_X0_canExpand {X : XC} {w0 : XS} (O : XOk X cX0_canExpand RX0 1 25) (hr : (xMeth X).sig.returnType = some .boolean) (hm : (xC X).maxLocals = 3) (x0 : Int64) (x2 : Int32) (s : Unit) : Sim X (fun _ : Unit => w0) (retC X eI (fun _ : Unit => w0)) 0 [(0, .long x0), (2, .int x2)] [] s (x0_canExpand x0 x2 s) := by
  unfold x0_canExpand
  refine s_lload_n O 0 rfl rfl dX0_canExpand_0 ?_
  refine s_lconst O (x := 0) (by decide) dX0_canExpand_1 ?_
  refine s_ldc2 O (x := 1000000000000) q1227 dX0_canExpand_2 ?_
  refine s_callP O (enc2 := eI) (av := [.long x0, .long 0, .long 1000000000000]) (rest := []) 3 (fun v0 h0 => mt_X0_isIn (xL X) (xG X) _ x0 0 1000000000000 v0 h0) (lw_S q317 q318 q131 q319) hd_X0_isIn ⟨Nat.le_of_ble_eq_true rfl, Nat.le_of_ble_eq_true rfl⟩ rfl (Nat.le_of_ble_eq_true rfl) dX0_canExpand_5 (fun v1 => ?_)
  refine s_if_eq O (tgt := 27) dX0_canExpand_8 (by decide) ?_ ?_
  · refine s_iconst O (x := 0) (by decide) dX0_canExpand_27 ?_
    exact s_zreturnK O hr rfl rfl dX0_canExpand_28
  · refine s_iload_n O 1 rfl rfl dX0_canExpand_11 ?_
    refine s_i2l O dX0_canExpand_12 ?_
    refine s_lconst O (x := 1) (by decide) dX0_canExpand_13 ?_
    refine s_ldc2 O (x := 40) q923 dX0_canExpand_14 ?_
    refine s_callP O (enc2 := eI) (av := [.long x2.toInt64, .long 1, .long 40]) (rest := []) 3 (fun v0 h0 => mt_X0_isIn (xL X) (xG X) _ x2.toInt64 1 40 v0 h0) (lw_S q317 q318 q131 q319) hd_X0_isIn ⟨Nat.le_of_ble_eq_true rfl, Nat.le_of_ble_eq_true rfl⟩ rfl (Nat.le_of_ble_eq_true rfl) dX0_canExpand_17 (fun v2 => ?_)
    refine s_if_eq O (tgt := 27) dX0_canExpand_20 (by decide) ?_ ?_
    · refine s_iconst O (x := 0) (by decide) dX0_canExpand_27 ?_
      exact s_zreturnK O hr rfl rfl dX0_canExpand_28
    · refine s_iconst O (x := 1) (by decide) dX0_canExpand_23 ?_
      refine s_goto O (tgt := 28) dX0_canExpand_24 (by decide) ?_
      exact s_zreturnK O hr rfl rfl dX0_canExpand_28
theorem mt_X0_canExpand (l : Launch) (G : XG) (w0 : XS) (x0 : Int64) (x2 : Int32) (v : Int32) (h : x0_canExpand x0 x2 () = some (v, ())) : xMet l yX0_canExpand (ws_ yX0_canExpand cX0_canExpand 3 (some .boolean)) 1 25 G w0 [.long x0, .int x2] (eI v) w0 :=
  xMet_of (E := fun _ : Unit => w0) (enc := eI) (t := ()) (by decide +kernel) (Nat.le_of_ble_eq_true rfl) (fun X hl hG O hr hm => wk_X0_canExpand O hr hm x0 x2 ()) h
theorem hd_X6_top : yX6_top.cls ≠ "java/lang/invoke/MethodHandle" ∧ yX6_top.cls ≠ "java/lang/invoke/VarHandle" ∧ (parseMethodDescriptor yX6_top.desc).map (fun d => d.parameters.length) = some 1 := by decide +kernel
theorem hv_X6_top : yX6_top.cls = RX6 ∧ yX6_top.cls ≠ "java/lang/invoke/MethodHandle" ∧ yX6_top.cls ≠ "java/lang/invoke/VarHandle" ∧ (parseMethodDescriptor yX6_top.desc).map (fun d => d.parameters.length) = some 1 := ⟨rfl, hd_X6_top⟩
theorem hu_X6_top : yX6_top.name ≠ "<init>" ∧ (parseMethodDescriptor yX6_top.desc).map (fun d => d.parameters.length) = some 1 := ⟨by decide +kernel, hd_X6_top.2.2⟩
set_option maxHeartbeats 4000000 in
set_option maxRecDepth 100000 in
theorem wk_X6_top {X : XC} (O : XOk X cX6_top RX6 0 0) (hfl : (xL X).stackTraces = false) (hg : (xG X).2.2.2.2 = zAll (xG X).1.1 (xG X).1.2.2.2 (xG X).2.2.2.1) (hr : (xMeth X).sig.returnType = (some .long)) (hm : (xC X).maxLocals = 2) (o : Nat) (x1 : Int32) (s : XS) : Sim X xI (retC X eL xI) 0 [(0, .ref o), (1, .int x1)] [] s (x6_top o x1 s) := by
  have hzz := O.hst
  rw [hg] at hzz
  unfold x6_top
  refine s_iload_n O 1 rfl rfl dX6_top_0 ?_
  refine s_aload_n O 0 rfl rfl dX6_top_1 ?_
  refine x_get O (ci := 6) (T := TX6) (N := 3) in_X6 rfl 2 (by decide) q1087 (fun _ h => h) dX6_top_2 (fun v0 => ?_)
  refine s_vI (fun u1 => ?_)
  refine s_icmp_lt O (tgt := 16) dX6_top_5 (by decide) ?_ ?_
  · refine s_ldc2 O (x := (-1)) q1232 dX6_top_16 ?_
    refine s_goto O (tgt := 28) dX6_top_19 (by decide) ?_
    exact s_lreturn O hr rfl dX6_top_28
  · refine s_iload_n O 1 rfl rfl dX6_top_8 ?_
    refine s_aload_n O 0 rfl rfl dX6_top_9 ?_
    refine x_get O (ci := 6) (T := TX6) (N := 3) in_X6 rfl 1 (by decide) q1086 (fun _ h => h) dX6_top_10 (fun v0 => ?_)
    refine s_vI (fun u2 => ?_)
    refine s_icmp_le O (tgt := 22) dX6_top_13 (by decide) ?_ ?_
    · refine s_aload_n O 0 rfl rfl dX6_top_22 ?_
      refine x_get O (ci := 6) (T := TX6) (N := 3) in_X6 rfl 0 (by decide) q1085 (fun _ h => h) dX6_top_23 (fun v0 => ?_)
      refine s_vR (fun r3 => ?_)
      refine s_iload_n O 1 rfl rfl dX6_top_26 ?_
      refine s_dr (fun p4 hp5 => ?_)
      subst hp5
      refine x_lald O dX6_top_27 (fun w6 => ?_)
      exact s_lreturn O hr rfl dX6_top_28
    · refine s_ldc2 O (x := (-1)) q1232 dX6_top_16 ?_
      refine s_goto O (tgt := 28) dX6_top_19 (by decide) ?_
      exact s_lreturn O hr rfl dX6_top_28
theorem mt_X6_top (l : Launch) (G : XG) (hfl : l.stackTraces = false) (hg : G.2.2.2.2 = zAll G.1.1 G.1.2.2.2 G.2.2.2.1) (o : Nat) (x1 : Int32) (s t : XS) (v : Int64) (h : x6_top o x1 s = some (v, t)) : xMet l yX6_top (ws_ yX6_top cX6_top 2 (some .long)) 0 0 G (xI s) [.ref o, .int x1] (eL v) (xI t) :=
  xMet_of (E := xI) (enc := eL) (by decide +kernel) (Nat.le_of_ble_eq_true rfl) (fun X hl hG O hr hm => by subst hl; subst hG; exact wk_X6_top O hfl hg hr hm o x1 s) h
theorem hd_X0_expand : yX0_expand.cls ≠ "java/lang/invoke/MethodHandle" ∧ yX0_expand.cls ≠ "java/lang/invoke/VarHandle" ∧ (parseMethodDescriptor yX0_expand.desc).map (fun d => d.parameters.length) = some 3 := by decide +kernel
theorem hv_X0_expand : yX0_expand.cls = RX0 ∧ yX0_expand.cls ≠ "java/lang/invoke/MethodHandle" ∧ yX0_expand.cls ≠ "java/lang/invoke/VarHandle" ∧ (parseMethodDescriptor yX0_expand.desc).map (fun d => d.parameters.length) = some 3 := ⟨rfl, hd_X0_expand⟩
theorem hu_X0_expand : yX0_expand.name ≠ "<init>" ∧ (parseMethodDescriptor yX0_expand.desc).map (fun d => d.parameters.length) = some 3 := ⟨by decide +kernel, hd_X0_expand.2.2⟩
set_option maxHeartbeats 4000000 in
set_option maxRecDepth 100000 in
theorem wk_X0_expand {X : XC} (O : XOk X cX0_expand RX0 204 4710) (hfl : (xL X).stackTraces = false) (hg : (xG X).2.2.2.2 = zAll (xG X).1.1 (xG X).1.2.2.2 (xG X).2.2.2.1) (hr : (xMeth X).sig.returnType = (some .long)) (hm : (xC X).maxLocals = 5) (o : Nat) (x1 : Int64) (x3 : Int32) (x4 : Int32) (s : XS) : Sim X xI (retC X eL xI) 0 [(0, .ref o), (1, .long x1), (3, .int x3), (4, .int x4)] [] s (x0_expand o x1 x3 x4 s) := by
  have hzz := O.hst
  rw [hg] at hzz
  unfold x0_expand
  refine s_lload_n O 1 rfl rfl dX0_expand_0 ?_
  refine s_iload_n O 2 rfl rfl dX0_expand_1 ?_
  refine s_callP O (enc2 := eI) (av := [.long x1, .int x3]) (rest := []) 2 (fun v0 h0 => mt_X0_canExpand (xL X) (xG X) _ x1 x3 v0 h0) (lw_S q1224 q1225 q131 q1226) hd_X0_canExpand ⟨Nat.le_of_ble_eq_true rfl, Nat.le_of_ble_eq_true rfl⟩ rfl (Nat.le_of_ble_eq_true rfl) dX0_expand_2 (fun v1 => ?_)
  refine s_if_eq O (tgt := 31) dX0_expand_5 (by decide) ?_ ?_
  · refine s_ldc2 O (x := (-1)) q1117 dX0_expand_31 ?_
    exact s_lreturn O hr rfl dX0_expand_34
  · refine s_lload_n O 1 rfl rfl dX0_expand_8 ?_
    refine s_lconst O (x := 0) (by decide) dX0_expand_9 ?_
    refine s_lcmp_le O (tgt := 31) dX0_expand_10 dX0_expand_11 (by decide) ?_ ?_
    · refine s_ldc2 O (x := (-1)) q1117 dX0_expand_31 ?_
      exact s_lreturn O hr rfl dX0_expand_34
    · refine x_new O (ci := 6) (T := TX6) (N := 3) (fs := dfX6) in_X6 tyX6 tyX6_ok rfl 3 q1065 q1066 q156 rfl dfX6_ok dX0_expand_14 (fun p3 s4 => ?_)
      refine s_dup O rfl dX0_expand_17 ?_
      refine s_lload_n O 1 rfl rfl dX0_expand_18 ?_
      refine s_iload_n O 2 rfl rfl dX0_expand_19 ?_
      refine x_callI O (enc2 := eU) (av := [.long x1, .int x3]) (rest := [.ref p3]) 2 (fun v0 t0 h0 => mt_X6_init (xL X) (xG X) hfl hg p3 x1 x3 _ t0 v0 h0) q1069 q156 q1067 q1068 rfl hd_X6_init ⟨Nat.le_of_ble_eq_true rfl, Nat.le_of_ble_eq_true rfl⟩ rfl (Nat.le_of_ble_eq_true rfl) dX0_expand_20 (fun v5 s6 => ?_)
      refine s_iload O 3 rfl dX0_expand_23 ?_
      refine x_callV O (enc2 := eL) (ci := 6) (av := [.int x4]) (rest := []) 1 (fun v0 t0 h0 => mt_X6_top (xL X) (xG X) hfl hg p3 x4 _ t0 v0 h0) (lw_V q1228 q1229 q1230 q156 q1231) hv_X6_top ⟨Nat.le_of_ble_eq_true rfl, Nat.le_of_ble_eq_true rfl⟩ rfl rfl (Nat.le_of_ble_eq_true rfl) dX0_expand_25 (fun v7 s8 => ?_)
      refine s_goto O (tgt := 34) dX0_expand_28 (by decide) ?_
      exact s_lreturn O hr rfl dX0_expand_34
theorem mt_X0_expand (l : Launch) (G : XG) (hfl : l.stackTraces = false) (hg : G.2.2.2.2 = zAll G.1.1 G.1.2.2.2 G.2.2.2.1) (o : Nat) (x1 : Int64) (x3 : Int32) (x4 : Int32) (s t : XS) (v : Int64) (h : x0_expand o x1 x3 x4 s = some (v, t)) : xMet l yX0_expand (ws_ yX0_expand cX0_expand 5 (some .long)) 204 4710 G (xI s) [.ref o, .long x1, .int x3, .int x4] (eL v) (xI t) :=
  xMet_of (E := xI) (enc := eL) (by decide +kernel) (Nat.le_of_ble_eq_true rfl) (fun X hl hG O hr hm => by subst hl; subst hG; exact wk_X0_expand O hfl hg hr hm o x1 x3 x4 s) h
theorem hd_X0_up : yX0_up.cls ≠ "java/lang/invoke/MethodHandle" ∧ yX0_up.cls ≠ "java/lang/invoke/VarHandle" ∧ (parseMethodDescriptor yX0_up.desc).map (fun d => d.parameters.length) = some 2 := by decide +kernel
theorem hv_X0_up : yX0_up.cls = RX0 ∧ yX0_up.cls ≠ "java/lang/invoke/MethodHandle" ∧ yX0_up.cls ≠ "java/lang/invoke/VarHandle" ∧ (parseMethodDescriptor yX0_up.desc).map (fun d => d.parameters.length) = some 2 := ⟨rfl, hd_X0_up⟩
theorem hu_X0_up : yX0_up.name ≠ "<init>" ∧ (parseMethodDescriptor yX0_up.desc).map (fun d => d.parameters.length) = some 2 := ⟨by decide +kernel, hd_X0_up.2.2⟩
set_option maxHeartbeats 4000000 in
set_option maxRecDepth 100000 in
theorem wk_X0_up {X : XC} (O : XOk X cX0_up RX0 205 4733) (hfl : (xL X).stackTraces = false) (hg : (xG X).2.2.2.2 = zAll (xG X).1.1 (xG X).1.2.2.2 (xG X).2.2.2.1) (hr : (xMeth X).sig.returnType = (some .long)) (hm : (xC X).maxLocals = 4) (o : Nat) (x1 : Int64) (x3 : Int32) (s : XS) : Sim X xI (retC X eL xI) 0 [(0, .ref o), (1, .long x1), (3, .int x3)] [] s (x0_up o x1 x3 s) := by
  have hzz := O.hst
  rw [hg] at hzz
  unfold x0_up
  refine s_lload_n O 1 rfl rfl dX0_up_0 ?_
  refine s_iload_n O 2 rfl rfl dX0_up_1 ?_
  refine s_callP O (enc2 := eI) (av := [.long x1, .int x3]) (rest := []) 2 (fun v0 h0 => mt_X0_canExpand (xL X) (xG X) _ x1 x3 v0 h0) (lw_S q1224 q1225 q131 q1226) hd_X0_canExpand ⟨Nat.le_of_ble_eq_true rfl, Nat.le_of_ble_eq_true rfl⟩ rfl (Nat.le_of_ble_eq_true rfl) dX0_up_2 (fun v1 => ?_)
  refine s_if_eq O (tgt := 16) dX0_up_5 (by decide) ?_ ?_
  · refine s_ldc2 O (x := (-1)) q1117 dX0_up_16 ?_
    exact s_lreturn O hr rfl dX0_up_19
  · refine s_lload_n O 1 rfl rfl dX0_up_8 ?_
    refine s_iload_n O 2 rfl rfl dX0_up_9 ?_
    refine x_callSH O (enc2 := eL) (av := [.long x1, .int x3]) (rest := []) 2 (fun v0 t0 h0 => mt_X0_upOf (xL X) (xG X) hfl hg x1 x3 _ t0 v0 h0) (lw_SW q1038 q1039 q131 q1040) hd_X0_upOf ⟨Nat.le_of_ble_eq_true rfl, Nat.le_of_ble_eq_true rfl⟩ rfl (Nat.le_of_ble_eq_true rfl) dX0_up_10 (fun v3 s4 => ?_)
    refine s_goto O (tgt := 19) dX0_up_13 (by decide) ?_
    exact s_lreturn O hr rfl dX0_up_19
theorem mt_X0_up (l : Launch) (G : XG) (hfl : l.stackTraces = false) (hg : G.2.2.2.2 = zAll G.1.1 G.1.2.2.2 G.2.2.2.1) (o : Nat) (x1 : Int64) (x3 : Int32) (s t : XS) (v : Int64) (h : x0_up o x1 x3 s = some (v, t)) : xMet l yX0_up (ws_ yX0_up cX0_up 4 (some .long)) 205 4733 G (xI s) [.ref o, .long x1, .int x3] (eL v) (xI t) :=
  xMet_of (E := xI) (enc := eL) (by decide +kernel) (Nat.le_of_ble_eq_true rfl) (fun X hl hG O hr hm => by subst hl; subst hG; exact wk_X0_up O hfl hg hr hm o x1 x3 s) h
theorem hd_X0_down : yX0_down.cls ≠ "java/lang/invoke/MethodHandle" ∧ yX0_down.cls ≠ "java/lang/invoke/VarHandle" ∧ (parseMethodDescriptor yX0_down.desc).map (fun d => d.parameters.length) = some 2 := by decide +kernel
theorem hv_X0_down : yX0_down.cls = RX0 ∧ yX0_down.cls ≠ "java/lang/invoke/MethodHandle" ∧ yX0_down.cls ≠ "java/lang/invoke/VarHandle" ∧ (parseMethodDescriptor yX0_down.desc).map (fun d => d.parameters.length) = some 2 := ⟨rfl, hd_X0_down⟩
theorem hu_X0_down : yX0_down.name ≠ "<init>" ∧ (parseMethodDescriptor yX0_down.desc).map (fun d => d.parameters.length) = some 2 := ⟨by decide +kernel, hd_X0_down.2.2⟩
set_option maxHeartbeats 4000000 in
set_option maxRecDepth 100000 in
theorem wk_X0_down {X : XC} (O : XOk X cX0_down RX0 204 4710) (hfl : (xL X).stackTraces = false) (hg : (xG X).2.2.2.2 = zAll (xG X).1.1 (xG X).1.2.2.2 (xG X).2.2.2.1) (hr : (xMeth X).sig.returnType = (some .long)) (hm : (xC X).maxLocals = 4) (o : Nat) (x1 : Int64) (x3 : Int32) (s : XS) : Sim X xI (retC X eL xI) 0 [(0, .ref o), (1, .long x1), (3, .int x3)] [] s (x0_down o x1 x3 s) := by
  have hzz := O.hst
  rw [hg] at hzz
  unfold x0_down
  refine s_lload_n O 1 rfl rfl dX0_down_0 ?_
  refine s_iload_n O 2 rfl rfl dX0_down_1 ?_
  refine s_callP O (enc2 := eI) (av := [.long x1, .int x3]) (rest := []) 2 (fun v0 h0 => mt_X0_canExpand (xL X) (xG X) _ x1 x3 v0 h0) (lw_S q1224 q1225 q131 q1226) hd_X0_canExpand ⟨Nat.le_of_ble_eq_true rfl, Nat.le_of_ble_eq_true rfl⟩ rfl (Nat.le_of_ble_eq_true rfl) dX0_down_2 (fun v1 => ?_)
  refine s_if_eq O (tgt := 25) dX0_down_5 (by decide) ?_ ?_
  · refine s_ldc2 O (x := (-1)) q1117 dX0_down_25 ?_
    exact s_lreturn O hr rfl dX0_down_28
  · refine x_new O (ci := 6) (T := TX6) (N := 3) (fs := dfX6) in_X6 tyX6 tyX6_ok rfl 3 q1065 q1066 q156 rfl dfX6_ok dX0_down_8 (fun p3 s4 => ?_)
    refine s_dup O rfl dX0_down_11 ?_
    refine s_lload_n O 1 rfl rfl dX0_down_12 ?_
    refine s_iload_n O 2 rfl rfl dX0_down_13 ?_
    refine x_callI O (enc2 := eU) (av := [.long x1, .int x3]) (rest := [.ref p3]) 2 (fun v0 t0 h0 => mt_X6_init (xL X) (xG X) hfl hg p3 x1 x3 _ t0 v0 h0) q1069 q156 q1067 q1068 rfl hd_X6_init ⟨Nat.le_of_ble_eq_true rfl, Nat.le_of_ble_eq_true rfl⟩ rfl (Nat.le_of_ble_eq_true rfl) dX0_down_14 (fun v5 s6 => ?_)
    refine s_iconst O (x := (-1)) (by decide) dX0_down_17 ?_
    refine s_iconst O (x := 0) (by decide) dX0_down_18 ?_
    refine x_callVT O (enc2 := eL) (ci := 6) (cj := 11) (av := [.int (-1), .int 0]) (rest := []) 2 (fun v0 t0 h0 => mt_X6_moved (xL X) (xG X) hfl hg p3 (-1) 0 _ t0 v0 h0) (lw_V q1095 q1096 q1097 q156 q1098) hv_X6_moved ⟨Nat.le_of_ble_eq_true rfl, Nat.le_of_ble_eq_true rfl⟩ rfl rfl (Nat.le_of_ble_eq_true rfl) dX0_down_19 (fun v7 s8 => ?_) (fun p9 s10 => ?_)
    · refine s_goto O (tgt := 28) dX0_down_22 (by decide) ?_
      exact s_lreturn O hr rfl dX0_down_28
    · exact sx_none
theorem mt_X0_down (l : Launch) (G : XG) (hfl : l.stackTraces = false) (hg : G.2.2.2.2 = zAll G.1.1 G.1.2.2.2 G.2.2.2.1) (o : Nat) (x1 : Int64) (x3 : Int32) (s t : XS) (v : Int64) (h : x0_down o x1 x3 s = some (v, t)) : xMet l yX0_down (ws_ yX0_down cX0_down 4 (some .long)) 204 4710 G (xI s) [.ref o, .long x1, .int x3] (eL v) (xI t) :=
  xMet_of (E := xI) (enc := eL) (by decide +kernel) (Nat.le_of_ble_eq_true rfl) (fun X hl hG O hr hm => by subst hl; subst hG; exact wk_X0_down O hfl hg hr hm o x1 x3 s) h
theorem hd_X0_ups : yX0_ups.cls ≠ "java/lang/invoke/MethodHandle" ∧ yX0_ups.cls ≠ "java/lang/invoke/VarHandle" ∧ (parseMethodDescriptor yX0_ups.desc).map (fun d => d.parameters.length) = some 3 := by decide +kernel
theorem hv_X0_ups : yX0_ups.cls = RX0 ∧ yX0_ups.cls ≠ "java/lang/invoke/MethodHandle" ∧ yX0_ups.cls ≠ "java/lang/invoke/VarHandle" ∧ (parseMethodDescriptor yX0_ups.desc).map (fun d => d.parameters.length) = some 3 := ⟨rfl, hd_X0_ups⟩
theorem hu_X0_ups : yX0_ups.name ≠ "<init>" ∧ (parseMethodDescriptor yX0_ups.desc).map (fun d => d.parameters.length) = some 3 := ⟨by decide +kernel, hd_X0_ups.2.2⟩
set_option maxHeartbeats 4000000 in
set_option maxRecDepth 100000 in
theorem wk_X0_ups {X : XC} (O : XOk X cX0_ups RX0 205 4733) (hfl : (xL X).stackTraces = false) (hg : (xG X).2.2.2.2 = zAll (xG X).1.1 (xG X).1.2.2.2 (xG X).2.2.2.1) (hr : (xMeth X).sig.returnType = (some .long)) (hm : (xC X).maxLocals = 8) (o : Nat) (x1 : Int64) (x3 : Int32) (x4 : Int32) (s : XS) : Sim X xI (retC X eL xI) 0 [(0, .ref o), (1, .long x1), (3, .int x3), (4, .int x4)] [] s (x0_ups o x1 x3 x4 s) := by
  have hzz := O.hst
  rw [hg] at hzz
  unfold x0_ups
  refine s_lload_n O 1 rfl rfl dX0_ups_0 ?_
  refine s_iload_n O 2 rfl rfl dX0_ups_1 ?_
  refine s_callP O (enc2 := eI) (av := [.long x1, .int x3]) (rest := []) 2 (fun v0 h0 => mt_X0_canExpand (xL X) (xG X) _ x1 x3 v0 h0) (lw_S q1224 q1225 q131 q1226) hd_X0_canExpand ⟨Nat.le_of_ble_eq_true rfl, Nat.le_of_ble_eq_true rfl⟩ rfl (Nat.le_of_ble_eq_true rfl) dX0_ups_2 (fun v1 => ?_)
  refine s_if_eq O (tgt := 30) dX0_ups_5 (by decide) ?_ ?_
  · refine s_ldc2 O (x := (-1)) q1117 dX0_ups_30 ?_
    exact s_lreturn O hr rfl dX0_ups_33
  · refine s_iload O 3 rfl dX0_ups_8 ?_
    refine s_i2l O dX0_ups_10 ?_
    refine s_lconst O (x := 0) (by decide) dX0_ups_11 ?_
    refine s_ldc2 O (x := 40) q923 dX0_ups_12 ?_
    refine s_callP O (enc2 := eI) (av := [.long x4.toInt64, .long 0, .long 40]) (rest := []) 3 (fun v0 h0 => mt_X0_isIn (xL X) (xG X) _ x4.toInt64 0 40 v0 h0) (lw_S q317 q318 q131 q319) hd_X0_isIn ⟨Nat.le_of_ble_eq_true rfl, Nat.le_of_ble_eq_true rfl⟩ rfl (Nat.le_of_ble_eq_true rfl) dX0_ups_15 (fun v3 => ?_)
    refine s_if_eq O (tgt := 30) dX0_ups_18 (by decide) ?_ ?_
    · refine s_ldc2 O (x := (-1)) q1117 dX0_ups_30 ?_
      exact s_lreturn O hr rfl dX0_ups_33
    · refine s_iload_n O 2 rfl rfl dX0_ups_21 ?_
      refine s_iload O 3 rfl dX0_ups_22 ?_
      refine s_iadd O dX0_ups_24 ?_
      refine s_bipush O (x := 41) (by decide) dX0_ups_25 ?_
      refine s_icmp_le O (tgt := 34) dX0_ups_27 (by decide) ?_ ?_
      · refine s_lload_n O 1 rfl rfl dX0_ups_34 ?_
        refine s_lstore O (L' := [(5, .long x1), (0, .ref o), (1, .long x1), (3, .int x3), (4, .int x4)]) hm (by decide) rfl dX0_ups_35 ?_
        refine s_iconst O (x := 0) (by decide) dX0_ups_37 ?_
        refine s_istore O (L' := [(7, .int 0), (5, .long x1), (0, .ref o), (1, .long x1), (3, .int x3), (4, .int x4)]) hm (by decide) rfl dX0_ups_38 ?_
        refine Sim.sub (L' := [(3, .int x3), (4, .int x4), (5, .long x1), (7, .int 0)]) [4, 5, 1, 0] rfl ?_
        refine s_while (A := Int64 × Int32) (B := (Unit) ⊕ (Int64)) (La := fun a40 => [(3, .int x3), (4, .int x4), (5, .long a40.1), (7, .int a40.2)]) (We := fun bb0 s8 => match bb0 with | .inl b40 => xWX X 65 [] [] ((xI) s8) | .inr b40 => xWX X 86 [(5, .long b40)] [] ((xI) s8)) rfl rfl ?_ ?_
        · intro Cl hn he a40 s5
          unfold x0_ups_s40
          refine s_iload O 3 rfl dX0_ups_40 ?_
          refine s_iload O 1 rfl dX0_ups_42 ?_
          refine s_icmp_ge O (tgt := 86) dX0_ups_44 (by decide) ?_ ?_
          · refine Sim.sub (L' := [(5, .long a40.1)]) [2] rfl ?_
            exact Sim.ret (he _ _)
          · refine s_lload O 2 rfl dX0_ups_47 ?_
            refine s_ldc2 O (x := 1000000000000) q1227 dX0_ups_49 ?_
            refine s_lcmp_gt O (tgt := 65) dX0_ups_52 dX0_ups_53 (by decide) ?_ ?_
            · refine Sim.sub (L' := []) [] rfl ?_
              exact Sim.ret (he _ _)
            · refine s_lload O 2 rfl dX0_ups_56 ?_
              refine s_ldc2 O (x := (-2)) q1116 dX0_ups_58 ?_
              refine s_lcmp_ne O (tgt := 69) dX0_ups_61 dX0_ups_62 (by decide) ?_ ?_
              · refine s_lload O 2 rfl dX0_ups_69 ?_
                refine s_iload_n O 0 rfl rfl dX0_ups_71 ?_
                refine s_iload O 3 rfl dX0_ups_72 ?_
                refine s_iadd O dX0_ups_74 ?_
                refine x_callSH O (enc2 := eL) (av := [.long a40.1, .int (x3 + a40.2)]) (rest := []) 2 (fun v0 t0 h0 => mt_X0_upOf (xL X) (xG X) hfl hg a40.1 (x3 + a40.2) _ t0 v0 h0) (lw_SW q1038 q1039 q131 q1040) hd_X0_upOf ⟨Nat.le_of_ble_eq_true rfl, Nat.le_of_ble_eq_true rfl⟩ rfl (Nat.le_of_ble_eq_true rfl) dX0_ups_75 (fun v6 s7 => ?_)
                refine s_lstore O (L' := [(5, .long v6), (3, .int x3), (4, .int x4), (7, .int a40.2)]) hm (by decide) rfl dX0_ups_78 ?_
                refine s_iinc O (y := (a40.2 + 1)) (L' := [(7, .int (a40.2 + 1)), (5, .long v6), (3, .int x3), (4, .int x4)]) 3 rfl hm (by decide) rfl rfl dX0_ups_80 ?_
                refine s_goto O (tgt := 40) dX0_ups_83 (by decide) ?_
                refine Sim.sub (L' := [(3, .int x3), (4, .int x4), (5, .long v6), (7, .int (a40.2 + 1))]) [2, 3, 1, 0] rfl ?_
                exact Sim.ret (hn _ _)
              · refine Sim.sub (L' := []) [] rfl ?_
                exact Sim.ret (he _ _)
        · intro bb0 s8
          rcases bb0 with b40 | b40
          · show Sim X (xI) (retC X eL xI) 65 [] [] s8 _
            dsimp only
            refine s_ldc2 O (x := (-2)) q1116 dX0_ups_65 ?_
            exact s_lreturn O hr rfl dX0_ups_68
          · show Sim X (xI) (retC X eL xI) 86 [(5, .long b40)] [] s8 _
            dsimp only
            refine s_lload O 0 rfl dX0_ups_86 ?_
            exact s_lreturn O hr rfl dX0_ups_88
      · refine s_ldc2 O (x := (-1)) q1117 dX0_ups_30 ?_
        exact s_lreturn O hr rfl dX0_ups_33
theorem mt_X0_ups (l : Launch) (G : XG) (hfl : l.stackTraces = false) (hg : G.2.2.2.2 = zAll G.1.1 G.1.2.2.2 G.2.2.2.1) (o : Nat) (x1 : Int64) (x3 : Int32) (x4 : Int32) (s t : XS) (v : Int64) (h : x0_ups o x1 x3 x4 s = some (v, t)) : xMet l yX0_ups (ws_ yX0_ups cX0_ups 8 (some .long)) 205 4733 G (xI s) [.ref o, .long x1, .int x3, .int x4] (eL v) (xI t) :=
  xMet_of (E := xI) (enc := eL) (by decide +kernel) (Nat.le_of_ble_eq_true rfl) (fun X hl hG O hr hm => by subst hl; subst hG; exact wk_X0_ups O hfl hg hr hm o x1 x3 x4 s) h
theorem hd_X0_row : yX0_row.cls ≠ "java/lang/invoke/MethodHandle" ∧ yX0_row.cls ≠ "java/lang/invoke/VarHandle" ∧ (parseMethodDescriptor yX0_row.desc).map (fun d => d.parameters.length) = some 1 := by decide +kernel
theorem hv_X0_row : yX0_row.cls = RX0 ∧ yX0_row.cls ≠ "java/lang/invoke/MethodHandle" ∧ yX0_row.cls ≠ "java/lang/invoke/VarHandle" ∧ (parseMethodDescriptor yX0_row.desc).map (fun d => d.parameters.length) = some 1 := ⟨rfl, hd_X0_row⟩
theorem hu_X0_row : yX0_row.name ≠ "<init>" ∧ (parseMethodDescriptor yX0_row.desc).map (fun d => d.parameters.length) = some 1 := ⟨by decide +kernel, hd_X0_row.2.2⟩
set_option maxHeartbeats 4000000 in
set_option maxRecDepth 100000 in
theorem wk_X0_row {X : XC} (O : XOk X cX0_row RX0 1 25) (hfl : (xL X).stackTraces = false) (hg : (xG X).2.2.2.2 = zAll (xG X).1.1 (xG X).1.2.2.2 (xG X).2.2.2.1) (hr : (xMeth X).sig.returnType = (some .int)) (hm : (xC X).maxLocals = 2) (o : Nat) (x1 : Int32) (s : XS) : Sim X xI (retC X eI xI) 0 [(0, .ref o), (1, .int x1)] [] s (x0_row o x1 s) := by
  have hzz := O.hst
  rw [hg] at hzz
  unfold x0_row
  refine s_iload_n O 1 rfl rfl dX0_row_0 ?_
  refine s_i2l O dX0_row_1 ?_
  refine s_lconst O (x := 0) (by decide) dX0_row_2 ?_
  refine s_aload_n O 0 rfl rfl dX0_row_3 ?_
  refine x_get O (ci := 0) (T := TX0) (N := 20) in_X0 rfl 3 (by decide) q234 (fun _ h => h) dX0_row_4 (fun v0 => ?_)
  refine s_vR (fun r1 => ?_)
  refine s_dr (fun p2 hp3 => ?_)
  subst hp3
  refine x_getN O (ci := 1) (T := TX1) (N := 6) in_X1 rfl 2 (by decide) (zf_q210 hzz) (fun _ h => h) dX0_row_7 (fun v0 => ?_)
  refine s_vR (fun r4 => ?_)
  refine s_dr (fun p5 hp6 => ?_)
  subst hp6
  refine x_alen O dX0_row_10 (fun u7 => ?_)
  refine s_iconst O (x := 1) (by decide) dX0_row_11 ?_
  refine s_isub O dX0_row_12 ?_
  refine s_i2l O dX0_row_13 ?_
  refine s_callP O (enc2 := eI) (av := [.long x1.toInt64, .long 0, .long ((u7 - 1).toInt64)]) (rest := []) 3 (fun v0 h0 => mt_X0_isIn (xL X) (xG X) _ x1.toInt64 0 ((u7 - 1).toInt64) v0 h0) (lw_S q317 q318 q131 q319) hd_X0_isIn ⟨Nat.le_of_ble_eq_true rfl, Nat.le_of_ble_eq_true rfl⟩ rfl (Nat.le_of_ble_eq_true rfl) dX0_row_14 (fun v8 => ?_)
  refine s_if_eq O (tgt := 32) dX0_row_17 (by decide) ?_ ?_
  · refine s_iconst O (x := (-1)) (by decide) dX0_row_32 ?_
    exact s_ireturn O hr rfl dX0_row_33
  · refine s_aload_n O 0 rfl rfl dX0_row_20 ?_
    refine x_get O (ci := 0) (T := TX0) (N := 20) in_X0 rfl 3 (by decide) q234 (fun _ h => h) dX0_row_21 (fun v0 => ?_)
    refine s_vR (fun r10 => ?_)
    refine s_dr (fun p11 hp12 => ?_)
    subst hp12
    refine x_getN O (ci := 1) (T := TX1) (N := 6) in_X1 rfl 2 (by decide) (zf_q210 hzz) (fun _ h => h) dX0_row_24 (fun v0 => ?_)
    refine s_vR (fun r13 => ?_)
    refine s_iload_n O 1 rfl rfl dX0_row_27 ?_
    refine s_dr (fun p14 hp15 => ?_)
    subst hp15
    refine x_iald O dX0_row_28 (fun u16 => ?_)
    refine s_goto O (tgt := 33) dX0_row_29 (by decide) ?_
    exact s_ireturn O hr rfl dX0_row_33
theorem mt_X0_row (l : Launch) (G : XG) (hfl : l.stackTraces = false) (hg : G.2.2.2.2 = zAll G.1.1 G.1.2.2.2 G.2.2.2.1) (o : Nat) (x1 : Int32) (s t : XS) (v : Int32) (h : x0_row o x1 s = some (v, t)) : xMet l yX0_row (ws_ yX0_row cX0_row 2 (some .int)) 1 25 G (xI s) [.ref o, .int x1] (eI v) (xI t) :=
  xMet_of (E := xI) (enc := eI) (by decide +kernel) (Nat.le_of_ble_eq_true rfl) (fun X hl hG O hr hm => by subst hl; subst hG; exact wk_X0_row O hfl hg hr hm o x1 s) h
theorem hd_X0_most : yX0_most.cls ≠ "java/lang/invoke/MethodHandle" ∧ yX0_most.cls ≠ "java/lang/invoke/VarHandle" ∧ (parseMethodDescriptor yX0_most.desc).map (fun d => d.parameters.length) = some 1 := by decide +kernel
theorem hv_X0_most : yX0_most.cls = RX0 ∧ yX0_most.cls ≠ "java/lang/invoke/MethodHandle" ∧ yX0_most.cls ≠ "java/lang/invoke/VarHandle" ∧ (parseMethodDescriptor yX0_most.desc).map (fun d => d.parameters.length) = some 1 := ⟨rfl, hd_X0_most⟩
theorem hu_X0_most : yX0_most.name ≠ "<init>" ∧ (parseMethodDescriptor yX0_most.desc).map (fun d => d.parameters.length) = some 1 := ⟨by decide +kernel, hd_X0_most.2.2⟩
set_option maxHeartbeats 4000000 in
set_option maxRecDepth 100000 in
theorem wk_X0_most {X : XC} (O : XOk X cX0_most RX0 205 4733) (hfl : (xL X).stackTraces = false) (hg : (xG X).2.2.2.2 = zAll (xG X).1.1 (xG X).1.2.2.2 (xG X).2.2.2.1) (hr : (xMeth X).sig.returnType = (some .long)) (hm : (xC X).maxLocals = 2) (o : Nat) (x1 : Int32) (s : XS) : Sim X xI (retC X eL xI) 0 [(0, .ref o), (1, .int x1)] [] s (x0_most o x1 s) := by
  have hzz := O.hst
  rw [hg] at hzz
  unfold x0_most
  refine s_iload_n O 1 rfl rfl dX0_most_0 ?_
  refine s_if_ne O (tgt := 8) dX0_most_1 (by decide) ?_ ?_
  · refine s_iload_n O 1 rfl rfl dX0_most_8 ?_
    refine s_iconst O (x := 1) (by decide) dX0_most_9 ?_
    refine s_icmp_ne O (tgt := 24) dX0_most_10 (by decide) ?_ ?_
    · refine s_aload_n O 0 rfl rfl dX0_most_24 ?_
      refine x_get O (ci := 0) (T := TX0) (N := 20) in_X0 rfl 3 (by decide) q234 (fun _ h => h) dX0_most_25 (fun v0 => ?_)
      refine s_vR (fun r1 => ?_)
      refine s_dr (fun p2 hp3 => ?_)
      subst hp3
      refine x_getN O (ci := 1) (T := TX1) (N := 6) in_X1 rfl 2 (by decide) (zf_q210 hzz) (fun _ h => h) dX0_most_28 (fun v0 => ?_)
      refine s_vR (fun r4 => ?_)
      refine s_iload_n O 1 rfl rfl dX0_most_31 ?_
      refine s_iconst O (x := 1) (by decide) dX0_most_32 ?_
      refine s_isub O dX0_most_33 ?_
      refine s_dr (fun p5 hp6 => ?_)
      subst hp6
      refine x_iald O dX0_most_34 (fun u7 => ?_)
      refine s_i2l O dX0_most_35 ?_
      refine s_iload_n O 1 rfl rfl dX0_most_36 ?_
      refine s_iconst O (x := 1) (by decide) dX0_most_37 ?_
      refine s_isub O dX0_most_38 ?_
      refine x_callSH O (enc2 := eL) (av := [.long u7.toInt64, .int (x1 - 1)]) (rest := []) 2 (fun v0 t0 h0 => mt_X0_upOf (xL X) (xG X) hfl hg u7.toInt64 (x1 - 1) _ t0 v0 h0) (lw_SW q1038 q1039 q131 q1040) hd_X0_upOf ⟨Nat.le_of_ble_eq_true rfl, Nat.le_of_ble_eq_true rfl⟩ rfl (Nat.le_of_ble_eq_true rfl) dX0_most_39 (fun v8 s9 => ?_)
      exact s_lreturn O hr rfl dX0_most_42
    · refine s_aload_n O 0 rfl rfl dX0_most_13 ?_
      refine x_get O (ci := 0) (T := TX0) (N := 20) in_X0 rfl 3 (by decide) q234 (fun _ h => h) dX0_most_14 (fun v0 => ?_)
      refine s_vR (fun r10 => ?_)
      refine s_dr (fun p11 hp12 => ?_)
      subst hp12
      refine x_getN O (ci := 1) (T := TX1) (N := 6) in_X1 rfl 0 (by decide) (zf_q206 hzz) (fun _ h => h) dX0_most_17 (fun v0 => ?_)
      refine s_vI (fun u13 => ?_)
      refine s_i2l O dX0_most_20 ?_
      refine s_goto O (tgt := 42) dX0_most_21 (by decide) ?_
      exact s_lreturn O hr rfl dX0_most_42
  · refine s_lconst O (x := 1) (by decide) dX0_most_4 ?_
    refine s_goto O (tgt := 42) dX0_most_5 (by decide) ?_
    exact s_lreturn O hr rfl dX0_most_42
theorem mt_X0_most (l : Launch) (G : XG) (hfl : l.stackTraces = false) (hg : G.2.2.2.2 = zAll G.1.1 G.1.2.2.2 G.2.2.2.1) (o : Nat) (x1 : Int32) (s t : XS) (v : Int64) (h : x0_most o x1 s = some (v, t)) : xMet l yX0_most (ws_ yX0_most cX0_most 2 (some .long)) 205 4733 G (xI s) [.ref o, .int x1] (eL v) (xI t) :=
  xMet_of (E := xI) (enc := eL) (by decide +kernel) (Nat.le_of_ble_eq_true rfl) (fun X hl hG O hr hm => by subst hl; subst hG; exact wk_X0_most O hfl hg hr hm o x1 s) h
theorem hd_X0_broken : yX0_broken.cls ≠ "java/lang/invoke/MethodHandle" ∧ yX0_broken.cls ≠ "java/lang/invoke/VarHandle" ∧ (parseMethodDescriptor yX0_broken.desc).map (fun d => d.parameters.length) = some 0 := by decide +kernel
theorem hv_X0_broken : yX0_broken.cls = RX0 ∧ yX0_broken.cls ≠ "java/lang/invoke/MethodHandle" ∧ yX0_broken.cls ≠ "java/lang/invoke/VarHandle" ∧ (parseMethodDescriptor yX0_broken.desc).map (fun d => d.parameters.length) = some 0 := ⟨rfl, hd_X0_broken⟩
theorem hu_X0_broken : yX0_broken.name ≠ "<init>" ∧ (parseMethodDescriptor yX0_broken.desc).map (fun d => d.parameters.length) = some 0 := ⟨by decide +kernel, hd_X0_broken.2.2⟩
set_option maxHeartbeats 4000000 in
set_option maxRecDepth 100000 in
theorem wk_X0_broken {X : XC} (O : XOk X cX0_broken RX0 206 4754) (hfl : (xL X).stackTraces = false) (hg : (xG X).2.2.2.2 = zAll (xG X).1.1 (xG X).1.2.2.2 (xG X).2.2.2.1) (hr : (xMeth X).sig.returnType = (some .int)) (hm : (xC X).maxLocals = 2) (o : Nat) (s : XS) : Sim X xI (retC X eI xI) 0 [(0, .ref o)] [] s (x0_broken o s) := by
  have hzz := O.hst
  rw [hg] at hzz
  unfold x0_broken
  refine s_iconst O (x := 0) (by decide) dX0_broken_0 ?_
  refine s_istore_n O (L' := [(1, .int 0), (0, .ref o)]) hm (by decide) rfl rfl dX0_broken_1 ?_
  refine Sim.sub (L' := [(0, .ref o), (1, .int 0)]) [1, 0] rfl ?_
  refine s_while (A := Int32) (B := (Int32) ⊕ (Unit)) (La := fun a2 => [(0, .ref o), (1, .int a2)]) (We := fun bb0 s25 => match bb0 with | .inl b2 => xWX X 50 [(1, .int b2)] [] ((xI) s25) | .inr b2 => xWX X 58 [] [] ((xI) s25)) rfl rfl ?_ ?_
  · intro Cl hn he a2 s1
    unfold x0_broken_s2
    refine s_iload_n O 1 rfl rfl dX0_broken_2 ?_
    refine s_aload_n O 0 rfl rfl dX0_broken_3 ?_
    refine x_get O (ci := 0) (T := TX0) (N := 20) in_X0 rfl 3 (by decide) q234 (fun _ h => h) dX0_broken_4 (fun v0 => ?_)
    refine s_vR (fun r2 => ?_)
    refine s_dr (fun p3 hp4 => ?_)
    subst hp4
    refine x_getN O (ci := 1) (T := TX1) (N := 6) in_X1 rfl 2 (by decide) (zf_q210 hzz) (fun _ h => h) dX0_broken_7 (fun v0 => ?_)
    refine s_vR (fun r5 => ?_)
    refine s_dr (fun p6 hp7 => ?_)
    subst hp7
    refine x_alen O dX0_broken_10 (fun u8 => ?_)
    refine s_icmp_ge O (tgt := 58) dX0_broken_11 (by decide) ?_ ?_
    · refine Sim.sub (L' := []) [] rfl ?_
      exact Sim.ret (he _ _)
    · refine s_aload_n O 0 rfl rfl dX0_broken_14 ?_
      refine x_get O (ci := 0) (T := TX0) (N := 20) in_X0 rfl 3 (by decide) q234 (fun _ h => h) dX0_broken_15 (fun v0 => ?_)
      refine s_vR (fun r9 => ?_)
      refine s_dr (fun p10 hp11 => ?_)
      subst hp11
      refine x_getN O (ci := 1) (T := TX1) (N := 6) in_X1 rfl 2 (by decide) (zf_q210 hzz) (fun _ h => h) dX0_broken_18 (fun v0 => ?_)
      refine s_vR (fun r12 => ?_)
      refine s_iload_n O 1 rfl rfl dX0_broken_21 ?_
      refine s_dr (fun p13 hp14 => ?_)
      subst hp14
      refine x_iald O dX0_broken_22 (fun u15 => ?_)
      refine s_i2l O dX0_broken_23 ?_
      refine s_aload_n O 0 rfl rfl dX0_broken_24 ?_
      refine s_iload_n O 1 rfl rfl dX0_broken_25 ?_
      refine x_callV O (enc2 := eL) (ci := 0) (av := [.int a2]) (rest := [.long u15.toInt64]) 1 (fun v0 t0 h0 => mt_X0_most (xL X) (xG X) hfl hg o a2 _ t0 v0 h0) (lw_V q1257 q1259 qs38 q131 q1260) hv_X0_most ⟨Nat.le_of_ble_eq_true rfl, Nat.le_of_ble_eq_true rfl⟩ rfl rfl (Nat.le_of_ble_eq_true rfl) dX0_broken_26 (fun v16 s17 => ?_)
      refine s_lcmp_gt O (tgt := 50) dX0_broken_29 dX0_broken_30 (by decide) ?_ ?_
      · refine Sim.sub (L' := [(1, .int a2)]) [1] rfl ?_
        exact Sim.ret (he _ _)
      · refine s_iload_n O 1 rfl rfl dX0_broken_33 ?_
        refine s_if_ne O (tgt := 52) dX0_broken_34 (by decide) ?_ ?_
        · refine s_iinc O (y := (a2 + 1)) (L' := [(1, .int (a2 + 1)), (0, .ref o)]) 1 rfl hm (by decide) rfl rfl dX0_broken_52 ?_
          refine s_goto O (tgt := 2) dX0_broken_55 (by decide) ?_
          refine Sim.sub (L' := [(0, .ref o), (1, .int (a2 + 1))]) [1, 0] rfl ?_
          exact Sim.ret (hn _ _)
        · refine s_aload_n O 0 rfl rfl dX0_broken_37 ?_
          refine x_get O (ci := 0) (T := TX0) (N := 20) in_X0 rfl 3 (by decide) q234 (fun _ h => h) dX0_broken_38 (fun v0 => ?_)
          refine s_vR (fun r18 => ?_)
          refine s_dr (fun p19 hp20 => ?_)
          subst hp20
          refine x_getN O (ci := 1) (T := TX1) (N := 6) in_X1 rfl 2 (by decide) (zf_q210 hzz) (fun _ h => h) dX0_broken_41 (fun v0 => ?_)
          refine s_vR (fun r21 => ?_)
          refine s_iconst O (x := 0) (by decide) dX0_broken_44 ?_
          refine s_dr (fun p22 hp23 => ?_)
          subst hp23
          refine x_iald O dX0_broken_45 (fun u24 => ?_)
          refine s_iconst O (x := 1) (by decide) dX0_broken_46 ?_
          refine s_icmp_eq O (tgt := 52) dX0_broken_47 (by decide) ?_ ?_
          · refine s_iinc O (y := (a2 + 1)) (L' := [(1, .int (a2 + 1)), (0, .ref o)]) 1 rfl hm (by decide) rfl rfl dX0_broken_52 ?_
            refine s_goto O (tgt := 2) dX0_broken_55 (by decide) ?_
            refine Sim.sub (L' := [(0, .ref o), (1, .int (a2 + 1))]) [1, 0] rfl ?_
            exact Sim.ret (hn _ _)
          · refine Sim.sub (L' := [(1, .int a2)]) [1] rfl ?_
            exact Sim.ret (he _ _)
  · intro bb0 s25
    rcases bb0 with b2 | b2
    · show Sim X (xI) (retC X eI xI) 50 [(1, .int b2)] [] s25 _
      dsimp only
      refine s_iload_n O 0 rfl rfl dX0_broken_50 ?_
      exact s_ireturn O hr rfl dX0_broken_51
    · show Sim X (xI) (retC X eI xI) 58 [] [] s25 _
      dsimp only
      refine s_iconst O (x := (-1)) (by decide) dX0_broken_58 ?_
      exact s_ireturn O hr rfl dX0_broken_59
theorem mt_X0_broken (l : Launch) (G : XG) (hfl : l.stackTraces = false) (hg : G.2.2.2.2 = zAll G.1.1 G.1.2.2.2 G.2.2.2.1) (o : Nat) (s t : XS) (v : Int32) (h : x0_broken o s = some (v, t)) : xMet l yX0_broken (ws_ yX0_broken cX0_broken 2 (some .int)) 206 4754 G (xI s) [.ref o] (eI v) (xI t) :=
  xMet_of (E := xI) (enc := eI) (by decide +kernel) (Nat.le_of_ble_eq_true rfl) (fun X hl hG O hr hm => by subst hl; subst hG; exact wk_X0_broken O hfl hg hr hm o s) h
theorem hd_X0_breaks : yX0_breaks.cls ≠ "java/lang/invoke/MethodHandle" ∧ yX0_breaks.cls ≠ "java/lang/invoke/VarHandle" ∧ (parseMethodDescriptor yX0_breaks.desc).map (fun d => d.parameters.length) = some 1 := by decide +kernel
theorem hv_X0_breaks : yX0_breaks.cls = RX0 ∧ yX0_breaks.cls ≠ "java/lang/invoke/MethodHandle" ∧ yX0_breaks.cls ≠ "java/lang/invoke/VarHandle" ∧ (parseMethodDescriptor yX0_breaks.desc).map (fun d => d.parameters.length) = some 1 := ⟨rfl, hd_X0_breaks⟩
theorem hu_X0_breaks : yX0_breaks.name ≠ "<init>" ∧ (parseMethodDescriptor yX0_breaks.desc).map (fun d => d.parameters.length) = some 1 := ⟨by decide +kernel, hd_X0_breaks.2.2⟩
set_option maxHeartbeats 4000000 in
set_option maxRecDepth 100000 in
theorem wk_X0_breaks {X : XC} (O : XOk X cX0_breaks RX0 207 4775) (hfl : (xL X).stackTraces = false) (hg : (xG X).2.2.2.2 = zAll (xG X).1.1 (xG X).1.2.2.2 (xG X).2.2.2.1) (hr : (xMeth X).sig.returnType = (some .long)) (hm : (xC X).maxLocals = 3) (o : Nat) (x1 : Int32) (s : XS) : Sim X xI (retC X eL xI) 0 [(0, .ref o), (1, .int x1)] [] s (x0_breaks o x1 s) := by
  have hzz := O.hst
  rw [hg] at hzz
  unfold x0_breaks
  refine s_aload_n O 0 rfl rfl dX0_breaks_0 ?_
  refine x_get O (ci := 0) (T := TX0) (N := 20) in_X0 rfl 3 (by decide) q234 (fun _ h => h) dX0_breaks_1 (fun v0 => ?_)
  refine s_vR (fun r1 => ?_)
  refine s_dr (fun p2 hp3 => ?_)
  subst hp3
  refine x_getN O (ci := 1) (T := TX1) (N := 6) in_X1 rfl 2 (by decide) (zf_q210 hzz) (fun _ h => h) dX0_breaks_4 (fun v0 => ?_)
  refine s_vR (fun r4 => ?_)
  refine s_dr (fun p5 hp6 => ?_)
  subst hp6
  refine x_alen O dX0_breaks_7 (fun u7 => ?_)
  refine s_if_eq O (tgt := 21) dX0_breaks_8 (by decide) ?_ ?_
  · refine s_ldc2 O (x := (-1)) q1117 dX0_breaks_21 ?_
    exact s_lreturn O hr rfl dX0_breaks_24
  · refine s_iload_n O 1 rfl rfl dX0_breaks_11 ?_
    refine s_i2l O dX0_breaks_12 ?_
    refine s_lconst O (x := 0) (by decide) dX0_breaks_13 ?_
    refine s_lconst O (x := 1) (by decide) dX0_breaks_14 ?_
    refine s_callP O (enc2 := eI) (av := [.long x1.toInt64, .long 0, .long 1]) (rest := []) 3 (fun v0 h0 => mt_X0_isIn (xL X) (xG X) _ x1.toInt64 0 1 v0 h0) (lw_S q317 q318 q131 q319) hd_X0_isIn ⟨Nat.le_of_ble_eq_true rfl, Nat.le_of_ble_eq_true rfl⟩ rfl (Nat.le_of_ble_eq_true rfl) dX0_breaks_15 (fun v8 => ?_)
    refine s_if_ne O (tgt := 25) dX0_breaks_18 (by decide) ?_ ?_
    · refine s_aload_n O 0 rfl rfl dX0_breaks_25 ?_
      refine x_callV O (enc2 := eI) (ci := 0) (av := []) (rest := []) 0 (fun v0 t0 h0 => mt_X0_broken (xL X) (xG X) hfl hg o _ t0 v0 h0) (lw_V q1253 q1255 qs37 q131 q1256) hv_X0_broken ⟨Nat.le_of_ble_eq_true rfl, Nat.le_of_ble_eq_true rfl⟩ rfl rfl (Nat.le_of_ble_eq_true rfl) dX0_breaks_26 (fun v10 s11 => ?_)
      refine s_istore_n O (L' := [(2, .int v10), (0, .ref o), (1, .int x1)]) hm (by decide) rfl rfl dX0_breaks_29 ?_
      refine s_iload_n O 2 rfl rfl dX0_breaks_30 ?_
      refine s_if_eq O (tgt := 39) dX0_breaks_31 (by decide) ?_ ?_
      · refine s_iload_n O 0 rfl rfl dX0_breaks_39 ?_
        refine s_i2l O dX0_breaks_40 ?_
        refine s_goto O (tgt := 49) dX0_breaks_41 (by decide) ?_
        exact s_lreturn O hr rfl dX0_breaks_49
      · refine s_iload_n O 0 rfl rfl dX0_breaks_34 ?_
        refine s_iconst O (x := (-1)) (by decide) dX0_breaks_35 ?_
        refine s_icmp_ne O (tgt := 44) dX0_breaks_36 (by decide) ?_ ?_
        · refine s_aload_n O 1 rfl rfl dX0_breaks_44 ?_
          refine s_iload_n O 0 rfl rfl dX0_breaks_45 ?_
          refine x_callV O (enc2 := eL) (ci := 0) (av := [.int v10]) (rest := []) 1 (fun v0 t0 h0 => mt_X0_most (xL X) (xG X) hfl hg o v10 _ t0 v0 h0) (lw_V q1257 q1259 qs38 q131 q1260) hv_X0_most ⟨Nat.le_of_ble_eq_true rfl, Nat.le_of_ble_eq_true rfl⟩ rfl rfl (Nat.le_of_ble_eq_true rfl) dX0_breaks_46 (fun v12 s13 => ?_)
          exact s_lreturn O hr rfl dX0_breaks_49
        · refine s_iload_n O 0 rfl rfl dX0_breaks_39 ?_
          refine s_i2l O dX0_breaks_40 ?_
          refine s_goto O (tgt := 49) dX0_breaks_41 (by decide) ?_
          exact s_lreturn O hr rfl dX0_breaks_49
    · refine s_ldc2 O (x := (-1)) q1117 dX0_breaks_21 ?_
      exact s_lreturn O hr rfl dX0_breaks_24
theorem mt_X0_breaks (l : Launch) (G : XG) (hfl : l.stackTraces = false) (hg : G.2.2.2.2 = zAll G.1.1 G.1.2.2.2 G.2.2.2.1) (o : Nat) (x1 : Int32) (s t : XS) (v : Int64) (h : x0_breaks o x1 s = some (v, t)) : xMet l yX0_breaks (ws_ yX0_breaks cX0_breaks 3 (some .long)) 207 4775 G (xI s) [.ref o, .int x1] (eL v) (xI t) :=
  xMet_of (E := xI) (enc := eL) (by decide +kernel) (Nat.le_of_ble_eq_true rfl) (fun X hl hG O hr hm => by subst hl; subst hG; exact wk_X0_breaks O hfl hg hr hm o x1 s) h
theorem hd_X0_isSegment : yX0_isSegment.cls ≠ "java/lang/invoke/MethodHandle" ∧ yX0_isSegment.cls ≠ "java/lang/invoke/VarHandle" ∧ (parseMethodDescriptor yX0_isSegment.desc).map (fun d => d.parameters.length) = some 1 := by decide +kernel
theorem hv_X0_isSegment : yX0_isSegment.cls = RX0 ∧ yX0_isSegment.cls ≠ "java/lang/invoke/MethodHandle" ∧ yX0_isSegment.cls ≠ "java/lang/invoke/VarHandle" ∧ (parseMethodDescriptor yX0_isSegment.desc).map (fun d => d.parameters.length) = some 1 := ⟨rfl, hd_X0_isSegment⟩
theorem hu_X0_isSegment : yX0_isSegment.name ≠ "<init>" ∧ (parseMethodDescriptor yX0_isSegment.desc).map (fun d => d.parameters.length) = some 1 := ⟨by decide +kernel, hd_X0_isSegment.2.2⟩
set_option maxHeartbeats 4000000 in
set_option maxRecDepth 100000 in
theorem wk_X0_isSegment {X : XC} (O : XOk X cX0_isSegment RX0 207 4775) (hfl : (xL X).stackTraces = false) (hg : (xG X).2.2.2.2 = zAll (xG X).1.1 (xG X).1.2.2.2 (xG X).2.2.2.1) (hr : (xMeth X).sig.returnType = (some .boolean)) (hm : (xC X).maxLocals = 2) (o : Nat) (x1 : Int32) (s : XS) : Sim X xI (retC X eI xI) 0 [(0, .ref o), (1, .int x1)] [] s (x0_isSegment o x1 s) := by
  have hzz := O.hst
  rw [hg] at hzz
  unfold x0_isSegment
  refine s_iload_n O 1 rfl rfl dX0_isSegment_0 ?_
  refine s_i2l O dX0_isSegment_1 ?_
  refine s_lconst O (x := 0) (by decide) dX0_isSegment_2 ?_
  refine s_aload_n O 0 rfl rfl dX0_isSegment_3 ?_
  refine x_get O (ci := 0) (T := TX0) (N := 20) in_X0 rfl 3 (by decide) q234 (fun _ h => h) dX0_isSegment_4 (fun v0 => ?_)
  refine s_vR (fun r1 => ?_)
  refine s_dr (fun p2 hp3 => ?_)
  subst hp3
  refine x_getN O (ci := 1) (T := TX1) (N := 6) in_X1 rfl 2 (by decide) (zf_q210 hzz) (fun _ h => h) dX0_isSegment_7 (fun v0 => ?_)
  refine s_vR (fun r4 => ?_)
  refine s_dr (fun p5 hp6 => ?_)
  subst hp6
  refine x_alen O dX0_isSegment_10 (fun u7 => ?_)
  refine s_iconst O (x := 1) (by decide) dX0_isSegment_11 ?_
  refine s_isub O dX0_isSegment_12 ?_
  refine s_i2l O dX0_isSegment_13 ?_
  refine s_callP O (enc2 := eI) (av := [.long x1.toInt64, .long 0, .long ((u7 - 1).toInt64)]) (rest := []) 3 (fun v0 h0 => mt_X0_isIn (xL X) (xG X) _ x1.toInt64 0 ((u7 - 1).toInt64) v0 h0) (lw_S q317 q318 q131 q319) hd_X0_isIn ⟨Nat.le_of_ble_eq_true rfl, Nat.le_of_ble_eq_true rfl⟩ rfl (Nat.le_of_ble_eq_true rfl) dX0_isSegment_14 (fun v8 => ?_)
  refine s_if_eq O (tgt := 32) dX0_isSegment_17 (by decide) ?_ ?_
  · refine s_iconst O (x := 0) (by decide) dX0_isSegment_32 ?_
    exact s_zreturnK O hr rfl rfl dX0_isSegment_33
  · refine s_aload_n O 0 rfl rfl dX0_isSegment_20 ?_
    refine x_callV O (enc2 := eI) (ci := 0) (av := []) (rest := []) 0 (fun v0 t0 h0 => mt_X0_broken (xL X) (xG X) hfl hg o _ t0 v0 h0) (lw_V q1253 q1255 qs37 q131 q1256) hv_X0_broken ⟨Nat.le_of_ble_eq_true rfl, Nat.le_of_ble_eq_true rfl⟩ rfl rfl (Nat.le_of_ble_eq_true rfl) dX0_isSegment_21 (fun v10 s11 => ?_)
    refine s_iconst O (x := (-1)) (by decide) dX0_isSegment_24 ?_
    refine s_icmp_ne O (tgt := 32) dX0_isSegment_25 (by decide) ?_ ?_
    · refine s_iconst O (x := 0) (by decide) dX0_isSegment_32 ?_
      exact s_zreturnK O hr rfl rfl dX0_isSegment_33
    · refine s_iconst O (x := 1) (by decide) dX0_isSegment_28 ?_
      refine s_goto O (tgt := 33) dX0_isSegment_29 (by decide) ?_
      exact s_zreturnK O hr rfl rfl dX0_isSegment_33
theorem mt_X0_isSegment (l : Launch) (G : XG) (hfl : l.stackTraces = false) (hg : G.2.2.2.2 = zAll G.1.1 G.1.2.2.2 G.2.2.2.1) (o : Nat) (x1 : Int32) (s t : XS) (v : Int32) (h : x0_isSegment o x1 s = some (v, t)) : xMet l yX0_isSegment (ws_ yX0_isSegment cX0_isSegment 2 (some .boolean)) 207 4775 G (xI s) [.ref o, .int x1] (eI v) (xI t) :=
  xMet_of (E := xI) (enc := eI) (by decide +kernel) (Nat.le_of_ble_eq_true rfl) (fun X hl hG O hr hm => by subst hl; subst hG; exact wk_X0_isSegment O hfl hg hr hm o x1 s) h
theorem hd_X0_segment : yX0_segment.cls ≠ "java/lang/invoke/MethodHandle" ∧ yX0_segment.cls ≠ "java/lang/invoke/VarHandle" ∧ (parseMethodDescriptor yX0_segment.desc).map (fun d => d.parameters.length) = some 1 := by decide +kernel
theorem hv_X0_segment : yX0_segment.cls = RX0 ∧ yX0_segment.cls ≠ "java/lang/invoke/MethodHandle" ∧ yX0_segment.cls ≠ "java/lang/invoke/VarHandle" ∧ (parseMethodDescriptor yX0_segment.desc).map (fun d => d.parameters.length) = some 1 := ⟨rfl, hd_X0_segment⟩
theorem hu_X0_segment : yX0_segment.name ≠ "<init>" ∧ (parseMethodDescriptor yX0_segment.desc).map (fun d => d.parameters.length) = some 1 := ⟨by decide +kernel, hd_X0_segment.2.2⟩
set_option maxHeartbeats 4000000 in
set_option maxRecDepth 100000 in
theorem wk_X0_segment {X : XC} (O : XOk X cX0_segment RX0 208 4796) (hfl : (xL X).stackTraces = false) (hg : (xG X).2.2.2.2 = zAll (xG X).1.1 (xG X).1.2.2.2 (xG X).2.2.2.1) (hr : (xMeth X).sig.returnType = (some .int)) (hm : (xC X).maxLocals = 2) (o : Nat) (x1 : Int32) (s : XS) : Sim X xI (retC X eI xI) 0 [(0, .ref o), (1, .int x1)] [] s (x0_segment o x1 s) := by
  have hzz := O.hst
  rw [hg] at hzz
  unfold x0_segment
  refine s_aload_n O 0 rfl rfl dX0_segment_0 ?_
  refine s_iload_n O 1 rfl rfl dX0_segment_1 ?_
  refine x_callV O (enc2 := eI) (ci := 0) (av := [.int x1]) (rest := []) 1 (fun v0 t0 h0 => mt_X0_isSegment (xL X) (xG X) hfl hg o x1 _ t0 v0 h0) (lw_V q1265 q1267 qs39 q131 q1268) hv_X0_isSegment ⟨Nat.le_of_ble_eq_true rfl, Nat.le_of_ble_eq_true rfl⟩ rfl rfl (Nat.le_of_ble_eq_true rfl) dX0_segment_2 (fun v1 s2 => ?_)
  refine s_if_eq O (tgt := 26) dX0_segment_5 (by decide) ?_ ?_
  · refine s_iconst O (x := (-1)) (by decide) dX0_segment_26 ?_
    exact s_ireturn O hr rfl dX0_segment_27
  · refine s_aload_n O 0 rfl rfl dX0_segment_8 ?_
    refine s_iload_n O 1 rfl rfl dX0_segment_9 ?_
    refine x_callV O (enc2 := eI) (ci := 0) (av := [.int x1]) (rest := []) 1 (fun v0 t0 h0 => mt_X0_manyHere (xL X) (xG X) hfl hg o x1 _ t0 v0 h0) (lw_V q924 q926 qs23 q131 q927) hv_X0_manyHere ⟨Nat.le_of_ble_eq_true rfl, Nat.le_of_ble_eq_true rfl⟩ rfl rfl (Nat.le_of_ble_eq_true rfl) dX0_segment_10 (fun v3 s4 => ?_)
    refine s_aload_n O 0 rfl rfl dX0_segment_13 ?_
    refine x_get O (ci := 0) (T := TX0) (N := 20) in_X0 rfl 3 (by decide) q234 (fun _ h => h) dX0_segment_14 (fun v0 => ?_)
    refine s_vR (fun r5 => ?_)
    refine s_dr (fun p6 hp7 => ?_)
    subst hp7
    refine x_getN O (ci := 1) (T := TX1) (N := 6) in_X1 rfl 2 (by decide) (zf_q210 hzz) (fun _ h => h) dX0_segment_17 (fun v0 => ?_)
    refine s_vR (fun r8 => ?_)
    refine s_iload_n O 1 rfl rfl dX0_segment_20 ?_
    refine s_dr (fun p9 hp10 => ?_)
    subst hp10
    refine x_iald O dX0_segment_21 (fun u11 => ?_)
    refine s_isub O dX0_segment_22 ?_
    refine s_goto O (tgt := 27) dX0_segment_23 (by decide) ?_
    exact s_ireturn O hr rfl dX0_segment_27
theorem mt_X0_segment (l : Launch) (G : XG) (hfl : l.stackTraces = false) (hg : G.2.2.2.2 = zAll G.1.1 G.1.2.2.2 G.2.2.2.1) (o : Nat) (x1 : Int32) (s t : XS) (v : Int32) (h : x0_segment o x1 s = some (v, t)) : xMet l yX0_segment (ws_ yX0_segment cX0_segment 2 (some .int)) 208 4796 G (xI s) [.ref o, .int x1] (eI v) (xI t) :=
  xMet_of (E := xI) (enc := eI) (by decide +kernel) (Nat.le_of_ble_eq_true rfl) (fun X hl hG O hr hm => by subst hl; subst hG; exact wk_X0_segment O hfl hg hr hm o x1 s) h
theorem hd_X0_freshOf : yX0_freshOf.cls ≠ "java/lang/invoke/MethodHandle" ∧ yX0_freshOf.cls ≠ "java/lang/invoke/VarHandle" ∧ (parseMethodDescriptor yX0_freshOf.desc).map (fun d => d.parameters.length) = some 1 := by decide +kernel
theorem hv_X0_freshOf : yX0_freshOf.cls = RX0 ∧ yX0_freshOf.cls ≠ "java/lang/invoke/MethodHandle" ∧ yX0_freshOf.cls ≠ "java/lang/invoke/VarHandle" ∧ (parseMethodDescriptor yX0_freshOf.desc).map (fun d => d.parameters.length) = some 1 := ⟨rfl, hd_X0_freshOf⟩
theorem hu_X0_freshOf : yX0_freshOf.name ≠ "<init>" ∧ (parseMethodDescriptor yX0_freshOf.desc).map (fun d => d.parameters.length) = some 1 := ⟨by decide +kernel, hd_X0_freshOf.2.2⟩
set_option maxHeartbeats 4000000 in
set_option maxRecDepth 100000 in
theorem wk_X0_freshOf {X : XC} (O : XOk X cX0_freshOf RX0 206 4754) (hfl : (xL X).stackTraces = false) (hg : (xG X).2.2.2.2 = zAll (xG X).1.1 (xG X).1.2.2.2 (xG X).2.2.2.1) (hr : (xMeth X).sig.returnType = (some .int)) (hm : (xC X).maxLocals = 2) (o : Nat) (x1 : Int32) (s : XS) : Sim X xI (retC X eI xI) 0 [(0, .ref o), (1, .int x1)] [] s (x0_freshOf o x1 s) := by
  have hzz := O.hst
  rw [hg] at hzz
  unfold x0_freshOf
  refine s_iload_n O 1 rfl rfl dX0_freshOf_0 ?_
  refine s_if_ne O (tgt := 8) dX0_freshOf_1 (by decide) ?_ ?_
  · refine s_aload_n O 0 rfl rfl dX0_freshOf_8 ?_
    refine s_iload_n O 1 rfl rfl dX0_freshOf_9 ?_
    refine x_callV O (enc2 := eL) (ci := 0) (av := [.int x1]) (rest := []) 1 (fun v0 t0 h0 => mt_X0_most (xL X) (xG X) hfl hg o x1 _ t0 v0 h0) (lw_V q1257 q1259 qs38 q131 q1260) hv_X0_most ⟨Nat.le_of_ble_eq_true rfl, Nat.le_of_ble_eq_true rfl⟩ rfl rfl (Nat.le_of_ble_eq_true rfl) dX0_freshOf_10 (fun v1 s2 => ?_)
    refine s_aload_n O 0 rfl rfl dX0_freshOf_13 ?_
    refine x_get O (ci := 0) (T := TX0) (N := 20) in_X0 rfl 3 (by decide) q234 (fun _ h => h) dX0_freshOf_14 (fun v0 => ?_)
    refine s_vR (fun r3 => ?_)
    refine s_dr (fun p4 hp5 => ?_)
    subst hp5
    refine x_getN O (ci := 1) (T := TX1) (N := 6) in_X1 rfl 2 (by decide) (zf_q210 hzz) (fun _ h => h) dX0_freshOf_17 (fun v0 => ?_)
    refine s_vR (fun r6 => ?_)
    refine s_iload_n O 1 rfl rfl dX0_freshOf_20 ?_
    refine s_dr (fun p7 hp8 => ?_)
    subst hp8
    refine x_iald O dX0_freshOf_21 (fun u9 => ?_)
    refine s_i2l O dX0_freshOf_22 ?_
    refine s_lsub O dX0_freshOf_23 ?_
    refine s_l2i O dX0_freshOf_24 ?_
    exact s_ireturn O hr rfl dX0_freshOf_25
  · refine s_iconst O (x := 0) (by decide) dX0_freshOf_4 ?_
    refine s_goto O (tgt := 25) dX0_freshOf_5 (by decide) ?_
    exact s_ireturn O hr rfl dX0_freshOf_25
theorem mt_X0_freshOf (l : Launch) (G : XG) (hfl : l.stackTraces = false) (hg : G.2.2.2.2 = zAll G.1.1 G.1.2.2.2 G.2.2.2.1) (o : Nat) (x1 : Int32) (s t : XS) (v : Int32) (h : x0_freshOf o x1 s = some (v, t)) : xMet l yX0_freshOf (ws_ yX0_freshOf cX0_freshOf 2 (some .int)) 206 4754 G (xI s) [.ref o, .int x1] (eI v) (xI t) :=
  xMet_of (E := xI) (enc := eI) (by decide +kernel) (Nat.le_of_ble_eq_true rfl) (fun X hl hG O hr hm => by subst hl; subst hG; exact wk_X0_freshOf O hfl hg hr hm o x1 s) h
theorem hd_X0_fresh : yX0_fresh.cls ≠ "java/lang/invoke/MethodHandle" ∧ yX0_fresh.cls ≠ "java/lang/invoke/VarHandle" ∧ (parseMethodDescriptor yX0_fresh.desc).map (fun d => d.parameters.length) = some 2 := by decide +kernel
theorem hv_X0_fresh : yX0_fresh.cls = RX0 ∧ yX0_fresh.cls ≠ "java/lang/invoke/MethodHandle" ∧ yX0_fresh.cls ≠ "java/lang/invoke/VarHandle" ∧ (parseMethodDescriptor yX0_fresh.desc).map (fun d => d.parameters.length) = some 2 := ⟨rfl, hd_X0_fresh⟩
theorem hu_X0_fresh : yX0_fresh.name ≠ "<init>" ∧ (parseMethodDescriptor yX0_fresh.desc).map (fun d => d.parameters.length) = some 2 := ⟨by decide +kernel, hd_X0_fresh.2.2⟩
set_option maxHeartbeats 4000000 in
set_option maxRecDepth 100000 in
theorem wk_X0_fresh {X : XC} (O : XOk X cX0_fresh RX0 208 4796) (hfl : (xL X).stackTraces = false) (hg : (xG X).2.2.2.2 = zAll (xG X).1.1 (xG X).1.2.2.2 (xG X).2.2.2.1) (hr : (xMeth X).sig.returnType = (some .int)) (hm : (xC X).maxLocals = 4) (o : Nat) (x1 : Int32) (x2 : Int32) (s : XS) : Sim X xI (retC X eI xI) 0 [(0, .ref o), (1, .int x1), (2, .int x2)] [] s (x0_fresh o x1 x2 s) := by
  have hzz := O.hst
  rw [hg] at hzz
  unfold x0_fresh
  refine s_aload_n O 0 rfl rfl dX0_fresh_0 ?_
  refine s_iload_n O 1 rfl rfl dX0_fresh_1 ?_
  refine x_callV O (enc2 := eI) (ci := 0) (av := [.int x1]) (rest := []) 1 (fun v0 t0 h0 => mt_X0_isSegment (xL X) (xG X) hfl hg o x1 _ t0 v0 h0) (lw_V q1265 q1267 qs39 q131 q1268) hv_X0_isSegment ⟨Nat.le_of_ble_eq_true rfl, Nat.le_of_ble_eq_true rfl⟩ rfl rfl (Nat.le_of_ble_eq_true rfl) dX0_fresh_2 (fun v1 s2 => ?_)
  refine s_if_ne O (tgt := 10) dX0_fresh_5 (by decide) ?_ ?_
  · refine s_aload_n O 0 rfl rfl dX0_fresh_10 ?_
    refine s_iload_n O 1 rfl rfl dX0_fresh_11 ?_
    refine x_callV O (enc2 := eI) (ci := 0) (av := [.int x1]) (rest := []) 1 (fun v0 t0 h0 => mt_X0_freshOf (xL X) (xG X) hfl hg o x1 _ t0 v0 h0) (lw_V q1273 q1275 qs40 q131 q1276) hv_X0_freshOf ⟨Nat.le_of_ble_eq_true rfl, Nat.le_of_ble_eq_true rfl⟩ rfl rfl (Nat.le_of_ble_eq_true rfl) dX0_fresh_12 (fun v3 s4 => ?_)
    refine s_istore_n O (L' := [(3, .int v3), (0, .ref o), (1, .int x1), (2, .int x2)]) hm (by decide) rfl rfl dX0_fresh_15 ?_
    refine s_iload_n O 3 rfl rfl dX0_fresh_16 ?_
    refine s_iconst O (x := (-1)) (by decide) dX0_fresh_17 ?_
    refine s_icmp_ne O (tgt := 23) dX0_fresh_18 (by decide) ?_ ?_
    · refine s_iload_n O 3 rfl rfl dX0_fresh_23 ?_
      refine s_i2l O dX0_fresh_24 ?_
      refine s_lconst O (x := 0) (by decide) dX0_fresh_25 ?_
      refine s_iload_n O 0 rfl rfl dX0_fresh_26 ?_
      refine s_iconst O (x := 1) (by decide) dX0_fresh_27 ?_
      refine s_isub O dX0_fresh_28 ?_
      refine s_i2l O dX0_fresh_29 ?_
      refine s_callP O (enc2 := eI) (av := [.long x2.toInt64, .long 0, .long ((v3 - 1).toInt64)]) (rest := []) 3 (fun v0 h0 => mt_X0_isIn (xL X) (xG X) _ x2.toInt64 0 ((v3 - 1).toInt64) v0 h0) (lw_S q317 q318 q131 q319) hd_X0_isIn ⟨Nat.le_of_ble_eq_true rfl, Nat.le_of_ble_eq_true rfl⟩ rfl (Nat.le_of_ble_eq_true rfl) dX0_fresh_30 (fun v5 => ?_)
      refine s_if_eq O (tgt := 58) dX0_fresh_33 (by decide) ?_ ?_
      · refine s_iconst O (x := (-1)) (by decide) dX0_fresh_58 ?_
        exact s_ireturn O hr rfl dX0_fresh_59
      · refine s_aload_n O 1 rfl rfl dX0_fresh_36 ?_
        refine s_iload_n O 2 rfl rfl dX0_fresh_37 ?_
        refine x_callV O (enc2 := eI) (ci := 0) (av := [.int x1]) (rest := []) 1 (fun v0 t0 h0 => mt_X0_manyHere (xL X) (xG X) hfl hg o x1 _ t0 v0 h0) (lw_V q924 q926 qs23 q131 q927) hv_X0_manyHere ⟨Nat.le_of_ble_eq_true rfl, Nat.le_of_ble_eq_true rfl⟩ rfl rfl (Nat.le_of_ble_eq_true rfl) dX0_fresh_38 (fun v7 s8 => ?_)
        refine s_aload_n O 1 rfl rfl dX0_fresh_41 ?_
        refine x_get O (ci := 0) (T := TX0) (N := 20) in_X0 rfl 3 (by decide) q234 (fun _ h => h) dX0_fresh_42 (fun v0 => ?_)
        refine s_vR (fun r9 => ?_)
        refine s_dr (fun p10 hp11 => ?_)
        subst hp11
        refine x_getN O (ci := 1) (T := TX1) (N := 6) in_X1 rfl 2 (by decide) (zf_q210 hzz) (fun _ h => h) dX0_fresh_45 (fun v0 => ?_)
        refine s_vR (fun r12 => ?_)
        refine s_iload_n O 2 rfl rfl dX0_fresh_48 ?_
        refine s_dr (fun p13 hp14 => ?_)
        subst hp14
        refine x_iald O dX0_fresh_49 (fun u15 => ?_)
        refine s_isub O dX0_fresh_50 ?_
        refine s_iload_n O 0 rfl rfl dX0_fresh_51 ?_
        refine s_isub O dX0_fresh_52 ?_
        refine s_iload_n O 3 rfl rfl dX0_fresh_53 ?_
        refine s_iadd O dX0_fresh_54 ?_
        refine s_goto O (tgt := 59) dX0_fresh_55 (by decide) ?_
        exact s_ireturn O hr rfl dX0_fresh_59
    · refine s_iload_n O 0 rfl rfl dX0_fresh_21 ?_
      exact s_ireturn O hr rfl dX0_fresh_22
  · refine s_iconst O (x := (-1)) (by decide) dX0_fresh_8 ?_
    exact s_ireturn O hr rfl dX0_fresh_9
theorem mt_X0_fresh (l : Launch) (G : XG) (hfl : l.stackTraces = false) (hg : G.2.2.2.2 = zAll G.1.1 G.1.2.2.2 G.2.2.2.1) (o : Nat) (x1 : Int32) (x2 : Int32) (s t : XS) (v : Int32) (h : x0_fresh o x1 x2 s = some (v, t)) : xMet l yX0_fresh (ws_ yX0_fresh cX0_fresh 4 (some .int)) 208 4796 G (xI s) [.ref o, .int x1, .int x2] (eI v) (xI t) :=
  xMet_of (E := xI) (enc := eI) (by decide +kernel) (Nat.le_of_ble_eq_true rfl) (fun X hl hG O hr hm => by subst hl; subst hG; exact wk_X0_fresh O hfl hg hr hm o x1 x2 s) h
