/-! THE COMPONENT's WALKS, printed by tools/mk_x.py -/
theorem hd_X0_lastOf : yX0_lastOf.cls ≠ "java/lang/invoke/MethodHandle" ∧ yX0_lastOf.cls ≠ "java/lang/invoke/VarHandle" ∧ (parseMethodDescriptor yX0_lastOf.desc).map (fun d => d.parameters.length) = some 1 := by decide +kernel
theorem hv_X0_lastOf : yX0_lastOf.cls = RX0 ∧ yX0_lastOf.cls ≠ "java/lang/invoke/MethodHandle" ∧ yX0_lastOf.cls ≠ "java/lang/invoke/VarHandle" ∧ (parseMethodDescriptor yX0_lastOf.desc).map (fun d => d.parameters.length) = some 1 := ⟨rfl, hd_X0_lastOf⟩
theorem hu_X0_lastOf : yX0_lastOf.name ≠ "<init>" ∧ (parseMethodDescriptor yX0_lastOf.desc).map (fun d => d.parameters.length) = some 1 := ⟨by decide +kernel, hd_X0_lastOf.2.2⟩
set_option maxHeartbeats 4000000 in
set_option maxRecDepth 100000 in
theorem wk_X0_lastOf {X : XC} (O : XOk X cX0_lastOf RX0 0 0) (hfl : (xL X).stackTraces = false) (hg : (xG X).2.2.2.2 = zAll (xG X).1.1 (xG X).1.2.2.2 (xG X).2.2.2.1) (hr : (xMeth X).sig.returnType = (some .int)) (hm : (xC X).maxLocals = 2) (x0 : Nat) (s : XS) : Sim X xI (retC X eI xI) 0 [(0, .ref x0)] [] s (x0_lastOf x0 s) := by
  have hzz := O.hst
  rw [hg] at hzz
  unfold x0_lastOf
  refine s_iconst O (x := 3) (by decide) dX0_lastOf_0 ?_
  refine s_istore_n O (L' := [(1, .int 3), (0, .ref x0)]) hm (by decide) rfl rfl dX0_lastOf_1 ?_
  refine Sim.sub (L' := [(0, .ref x0), (1, .int 3)]) [1, 0] rfl ?_
  refine s_while (A := Int32) (B := Int32) (La := fun a2 => [(0, .ref x0), (1, .int a2)]) (We := fun b2 s3 => xWX X 18 [(1, .int b2)] [] ((xI) s3)) rfl rfl ?_ ?_
  · intro Cl hn he a2 s1
    unfold x0_lastOf_s2
    refine s_iload_n O 1 rfl rfl dX0_lastOf_2 ?_
    refine s_if_le O (tgt := 18) dX0_lastOf_3 (by decide) ?_ ?_
    · refine Sim.sub (L' := [(1, .int a2)]) [1] rfl ?_
      exact Sim.ret (he _ _)
    · refine s_aload_n O 0 rfl rfl dX0_lastOf_6 ?_
      refine s_iload_n O 1 rfl rfl dX0_lastOf_7 ?_
      refine x_iald O dX0_lastOf_8 (fun u2 => ?_)
      refine s_if_ne O (tgt := 18) dX0_lastOf_9 (by decide) ?_ ?_
      · refine Sim.sub (L' := [(1, .int a2)]) [1] rfl ?_
        exact Sim.ret (he _ _)
      · refine s_iinc O (y := (a2 + (-1))) (L' := [(1, .int (a2 + (-1))), (0, .ref x0)]) 1 rfl hm (by decide) (congrArg (HAdd.hAdd a2) (by decide)) rfl dX0_lastOf_12 ?_
        refine s_goto O (tgt := 2) dX0_lastOf_15 (by decide) ?_
        refine Sim.sub (L' := [(0, .ref x0), (1, .int (a2 + (-1)))]) [1, 0] rfl ?_
        exact Sim.ret (hn _ _)
  · intro b2 s3
    show Sim X (xI) (retC X eI xI) 18 [(1, .int b2)] [] s3 _
    refine s_iload_n O 0 rfl rfl dX0_lastOf_18 ?_
    exact s_ireturn O hr rfl dX0_lastOf_19
theorem mt_X0_lastOf (l : Launch) (G : XG) (hfl : l.stackTraces = false) (hg : G.2.2.2.2 = zAll G.1.1 G.1.2.2.2 G.2.2.2.1) (x0 : Nat) (s t : XS) (v : Int32) (h : x0_lastOf x0 s = some (v, t)) : xMet l yX0_lastOf (ws_ yX0_lastOf cX0_lastOf 2 (some .int)) 0 0 G (xI s) [.ref x0] (eI v) (xI t) :=
  xMet_of (E := xI) (enc := eI) (by decide +kernel) (Nat.le_of_ble_eq_true rfl) (fun X hl hG O hr hm => by subst hl; subst hG; exact wk_X0_lastOf O hfl hg hr hm x0 s) h
theorem hd_X0_betti : yX0_betti.cls ≠ "java/lang/invoke/MethodHandle" ∧ yX0_betti.cls ≠ "java/lang/invoke/VarHandle" ∧ (parseMethodDescriptor yX0_betti.desc).map (fun d => d.parameters.length) = some 2 := by decide +kernel
theorem hv_X0_betti : yX0_betti.cls = RX0 ∧ yX0_betti.cls ≠ "java/lang/invoke/MethodHandle" ∧ yX0_betti.cls ≠ "java/lang/invoke/VarHandle" ∧ (parseMethodDescriptor yX0_betti.desc).map (fun d => d.parameters.length) = some 2 := ⟨rfl, hd_X0_betti⟩
theorem hu_X0_betti : yX0_betti.name ≠ "<init>" ∧ (parseMethodDescriptor yX0_betti.desc).map (fun d => d.parameters.length) = some 2 := ⟨by decide +kernel, hd_X0_betti.2.2⟩
set_option maxHeartbeats 4000000 in
set_option maxRecDepth 100000 in
theorem wk_X0_betti {X : XC} (O : XOk X cX0_betti RX0 208 4796) (hfl : (xL X).stackTraces = false) (hg : (xG X).2.2.2.2 = zAll (xG X).1.1 (xG X).1.2.2.2 (xG X).2.2.2.1) (hr : (xMeth X).sig.returnType = (some .int)) (hm : (xC X).maxLocals = 8) (o : Nat) (x1 : Int32) (x2 : Int32) (s : XS) : Sim X xI (retC X eI xI) 0 [(0, .ref o), (1, .int x1), (2, .int x2)] [] s (x0_betti o x1 x2 s) := by
  have hzz := O.hst
  rw [hg] at hzz
  unfold x0_betti
  refine s_aload_n O 0 rfl rfl dX0_betti_0 ?_
  refine s_iload_n O 1 rfl rfl dX0_betti_1 ?_
  refine x_callV O (enc2 := eI) (ci := 0) (av := [.int x1]) (rest := []) 1 (fun v0 t0 h0 => mt_X0_isSegment (xL X) (xG X) hfl hg o x1 _ t0 v0 h0) (lw_V q1265 q1267 qs39 q131 q1268) hv_X0_isSegment ⟨Nat.le_of_ble_eq_true rfl, Nat.le_of_ble_eq_true rfl⟩ rfl rfl (Nat.le_of_ble_eq_true rfl) dX0_betti_2 (fun v1 s2 => ?_)
  refine s_if_eq O (tgt := 20) dX0_betti_5 (by decide) ?_ ?_
  · refine s_iconst O (x := (-1)) (by decide) dX0_betti_20 ?_
    exact s_ireturn O hr rfl dX0_betti_21
  · refine s_iload_n O 2 rfl rfl dX0_betti_8 ?_
    refine s_i2l O dX0_betti_9 ?_
    refine s_lconst O (x := 0) (by decide) dX0_betti_10 ?_
    refine s_ldc2 O (x := 3) q316 dX0_betti_11 ?_
    refine s_callP O (enc2 := eI) (av := [.long x2.toInt64, .long 0, .long 3]) (rest := []) 3 (fun v0 h0 => mt_X0_isIn (xL X) (xG X) _ x2.toInt64 0 3 v0 h0) (lw_S q317 q318 q131 q319) hd_X0_isIn ⟨Nat.le_of_ble_eq_true rfl, Nat.le_of_ble_eq_true rfl⟩ rfl (Nat.le_of_ble_eq_true rfl) dX0_betti_14 (fun v3 => ?_)
    refine s_if_ne O (tgt := 22) dX0_betti_17 (by decide) ?_ ?_
    · refine s_aload_n O 0 rfl rfl dX0_betti_22 ?_
      refine s_iload_n O 1 rfl rfl dX0_betti_23 ?_
      refine x_callV O (enc2 := eI) (ci := 0) (av := [.int x1]) (rest := []) 1 (fun v0 t0 h0 => mt_X0_freshOf (xL X) (xG X) hfl hg o x1 _ t0 v0 h0) (lw_V q1273 q1275 qs40 q131 q1276) hv_X0_freshOf ⟨Nat.le_of_ble_eq_true rfl, Nat.le_of_ble_eq_true rfl⟩ rfl rfl (Nat.le_of_ble_eq_true rfl) dX0_betti_24 (fun v5 s6 => ?_)
      refine s_istore_n O (L' := [(3, .int v5), (0, .ref o), (1, .int x1), (2, .int x2)]) hm (by decide) rfl rfl dX0_betti_27 ?_
      refine s_aload_n O 1 rfl rfl dX0_betti_28 ?_
      refine s_iload_n O 2 rfl rfl dX0_betti_29 ?_
      refine x_callV O (enc2 := eI) (ci := 0) (av := [.int x1]) (rest := []) 1 (fun v0 t0 h0 => mt_X0_manyHere (xL X) (xG X) hfl hg o x1 _ t0 v0 h0) (lw_V q924 q926 qs23 q131 q927) hv_X0_manyHere ⟨Nat.le_of_ble_eq_true rfl, Nat.le_of_ble_eq_true rfl⟩ rfl rfl (Nat.le_of_ble_eq_true rfl) dX0_betti_30 (fun v7 s8 => ?_)
      refine s_aload_n O 1 rfl rfl dX0_betti_33 ?_
      refine x_get O (ci := 0) (T := TX0) (N := 20) in_X0 rfl 3 (by decide) q234 (fun _ h => h) dX0_betti_34 (fun v0 => ?_)
      refine s_vR (fun r9 => ?_)
      refine s_dr (fun p10 hp11 => ?_)
      subst hp11
      refine x_getN O (ci := 1) (T := TX1) (N := 6) in_X1 rfl 2 (by decide) (zf_q210 hzz) (fun _ h => h) dX0_betti_37 (fun v0 => ?_)
      refine s_vR (fun r12 => ?_)
      refine s_iload_n O 2 rfl rfl dX0_betti_40 ?_
      refine s_dr (fun p13 hp14 => ?_)
      subst hp14
      refine x_iald O dX0_betti_41 (fun u15 => ?_)
      refine s_isub O dX0_betti_42 ?_
      refine s_iload_n O 0 rfl rfl dX0_betti_43 ?_
      refine s_isub O dX0_betti_44 ?_
      refine s_nmi fun u16 => ?_
      refine s_istore O (L' := [(4, .int u16), (3, .int v5), (0, .ref o), (1, .int x1), (2, .int x2)]) hm (by decide) rfl dX0_betti_45 ?_
      refine s_iconst O (x := 0) (by decide) dX0_betti_47 ?_
      refine s_istore O (L' := [(5, .int 0), (4, .int u16), (3, .int v5), (0, .ref o), (1, .int x1), (2, .int x2)]) hm (by decide) rfl dX0_betti_48 ?_
      refine s_iconst O (x := 4) (by decide) dX0_betti_50 ?_
      refine x_newI O q204 dX0_betti_51 (fun p17 s18 => ?_)
      refine s_astore O (L' := [(6, .ref p17), (5, .int 0), (4, .int u16), (3, .int v5), (0, .ref o), (1, .int x1), (2, .int x2)]) hm (by decide) rfl dX0_betti_53 ?_
      refine s_iload O 2 rfl dX0_betti_55 ?_
      refine s_istore O (L' := [(7, .int u16), (6, .ref p17), (5, .int 0), (4, .int u16), (3, .int v5), (0, .ref o), (1, .int x1), (2, .int x2)]) hm (by decide) rfl dX0_betti_57 ?_
      refine Sim.sub (L' := [(0, .ref o), (1, .int x1), (2, .int x2), (3, .int v5), (4, .int u16), (5, .int 0), (6, .ref p17), (7, .int u16)]) [5, 6, 7, 4, 3, 2, 1, 0] rfl ?_
      refine s_while (A := Int32 × Int32) (B := Int32) (La := fun a59 => [(0, .ref o), (1, .int x1), (2, .int x2), (3, .int v5), (4, .int u16), (5, .int a59.1), (6, .ref p17), (7, .int a59.2)]) (We := fun b59 s36 => xWX X 105 [(5, .int b59)] [] ((xI) s36)) rfl rfl ?_ ?_
      · intro Cl hn he a59 s19
        unfold x0_betti_s59
        refine s_iload O 7 rfl dX0_betti_59 ?_
        refine s_iload O 4 rfl dX0_betti_61 ?_
        refine s_iload_n O 3 rfl rfl dX0_betti_63 ?_
        refine s_iadd O dX0_betti_64 ?_
        refine s_icmp_ge O (tgt := 105) dX0_betti_65 (by decide) ?_ ?_
        · refine Sim.sub (L' := [(5, .int a59.1)]) [5] rfl ?_
          exact Sim.ret (he _ _)
        · refine s_aload O 6 rfl dX0_betti_68 ?_
          refine s_aload_n O 0 rfl rfl dX0_betti_70 ?_
          refine x_get O (ci := 0) (T := TX0) (N := 20) in_X0 rfl 3 (by decide) q234 (fun _ h => h) dX0_betti_71 (fun v0 => ?_)
          refine s_vR (fun r20 => ?_)
          refine s_dr (fun p21 hp22 => ?_)
          subst hp22
          refine x_getN O (ci := 1) (T := TX1) (N := 6) in_X1 rfl 0 (by decide) (zf_q206 hzz) (fun _ h => h) dX0_betti_74 (fun v0 => ?_)
          refine s_vI (fun u23 => ?_)
          refine s_iload_n O 1 rfl rfl dX0_betti_77 ?_
          refine s_iload O 7 rfl dX0_betti_78 ?_
          refine x_callS O (enc2 := eU) (av := [.ref p17, .int u23, .int x1, .int a59.2]) (rest := []) 4 (fun v0 t0 h0 => mt_X0_laysOne (xL X) (xG X) hfl hg p17 u23 x1 a59.2 _ t0 v0 h0) (lw_S q1281 q951 q131 q952) hd_X0_laysOne ⟨Nat.le_of_ble_eq_true rfl, Nat.le_of_ble_eq_true rfl⟩ rfl (Nat.le_of_ble_eq_true rfl) dX0_betti_80 (fun v24 s25 => ?_)
          refine s_iload O 5 rfl dX0_betti_83 ?_
          refine x_getst O (j := 0) (zs_0 hzz) q931 (fun _ h => h) dX0_betti_85 ?_
          refine s_nmQ (fun r26 => ?_)
          refine s_aload O 6 rfl dX0_betti_88 ?_
          refine x_callS O (enc2 := eI) (av := [.ref p17]) (rest := [va_rf r26, .int a59.1]) 1 (fun v0 t0 h0 => mt_X0_lastOf (xL X) (xG X) hfl hg p17 _ t0 v0 h0) (lw_S q1282 q1283 q131 q1284) hd_X0_lastOf ⟨Nat.le_of_ble_eq_true rfl, Nat.le_of_ble_eq_true rfl⟩ rfl (by generalize r26 = zq0; cases zq0 <;> exact Nat.le_of_ble_eq_true rfl) dX0_betti_90 (fun v27 s28 => ?_)
          refine s_dr (fun p29 hp30 => ?_)
          subst hp30
          refine x_aald O (t := 6) rfl rfl dX0_betti_93 (fun r31 => ?_)
          refine s_iload_n O 2 rfl rfl dX0_betti_94 ?_
          refine s_dr (fun p32 hp33 => ?_)
          subst hp33
          refine x_iald O dX0_betti_95 (fun u34 => ?_)
          refine s_iadd O dX0_betti_96 ?_
          refine s_nmi fun u35 => ?_
          refine s_istore O (L' := [(5, .int u35), (0, .ref o), (1, .int x1), (2, .int x2), (3, .int v5), (4, .int u16), (6, .ref p17), (7, .int a59.2)]) hm (by decide) rfl dX0_betti_97 ?_
          refine s_iinc O (y := (a59.2 + 1)) (L' := [(7, .int (a59.2 + 1)), (5, .int u35), (0, .ref o), (1, .int x1), (2, .int x2), (3, .int v5), (4, .int u16), (6, .ref p17)]) 7 rfl hm (by decide) rfl rfl dX0_betti_99 ?_
          refine s_goto O (tgt := 59) dX0_betti_102 (by decide) ?_
          refine Sim.sub (L' := [(0, .ref o), (1, .int x1), (2, .int x2), (3, .int v5), (4, .int u16), (5, .int u35), (6, .ref p17), (7, .int (a59.2 + 1))]) [2, 3, 4, 5, 6, 1, 7, 0] rfl ?_
          exact Sim.ret (hn _ _)
      · intro b59 s36
        show Sim X (xI) (retC X eI xI) 105 [(5, .int b59)] [] s36 _
        refine s_iload O 0 rfl dX0_betti_105 ?_
        exact s_ireturn O hr rfl dX0_betti_107
    · refine s_iconst O (x := (-1)) (by decide) dX0_betti_20 ?_
      exact s_ireturn O hr rfl dX0_betti_21
theorem mt_X0_betti (l : Launch) (G : XG) (hfl : l.stackTraces = false) (hg : G.2.2.2.2 = zAll G.1.1 G.1.2.2.2 G.2.2.2.1) (o : Nat) (x1 : Int32) (x2 : Int32) (s t : XS) (v : Int32) (h : x0_betti o x1 x2 s = some (v, t)) : xMet l yX0_betti (ws_ yX0_betti cX0_betti 8 (some .int)) 208 4796 G (xI s) [.ref o, .int x1, .int x2] (eI v) (xI t) :=
  xMet_of (E := xI) (enc := eI) (by decide +kernel) (Nat.le_of_ble_eq_true rfl) (fun X hl hG O hr hm => by subst hl; subst hG; exact wk_X0_betti O hfl hg hr hm o x1 x2 s) h
theorem hd_X0_take : yX0_take.cls ≠ "java/lang/invoke/MethodHandle" ∧ yX0_take.cls ≠ "java/lang/invoke/VarHandle" ∧ (parseMethodDescriptor yX0_take.desc).map (fun d => d.parameters.length) = some 1 := by decide +kernel
theorem hv_X0_take : yX0_take.cls = RX0 ∧ yX0_take.cls ≠ "java/lang/invoke/MethodHandle" ∧ yX0_take.cls ≠ "java/lang/invoke/VarHandle" ∧ (parseMethodDescriptor yX0_take.desc).map (fun d => d.parameters.length) = some 1 := ⟨rfl, hd_X0_take⟩
theorem hu_X0_take : yX0_take.name ≠ "<init>" ∧ (parseMethodDescriptor yX0_take.desc).map (fun d => d.parameters.length) = some 1 := ⟨by decide +kernel, hd_X0_take.2.2⟩
set_option maxHeartbeats 4000000 in
set_option maxRecDepth 100000 in
theorem wk_X0_take {X : XC} (O : XOk X cX0_take RX0 8 216) (hfl : (xL X).stackTraces = false) (hg : (xG X).2.2.2.2 = zAll (xG X).1.1 (xG X).1.2.2.2 (xG X).2.2.2.1) (hr : (xMeth X).sig.returnType = (some .int)) (hm : (xC X).maxLocals = 4) (o : Nat) (x1 : Int32) (s : XS) : Sim X xI (retC X eI xI) 0 [(0, .ref o), (1, .int x1)] [] s (x0_take o x1 s) := by
  have hzz := O.hst
  rw [hg] at hzz
  unfold x0_take
  refine s_iload_n O 1 rfl rfl dX0_take_0 ?_
  refine s_i2l O dX0_take_1 ?_
  refine s_lconst O (x := 0) (by decide) dX0_take_2 ?_
  refine s_ldc2 O (x := 12) q1289 dX0_take_3 ?_
  refine s_callP O (enc2 := eI) (av := [.long x1.toInt64, .long 0, .long 12]) (rest := []) 3 (fun v0 h0 => mt_X0_isIn (xL X) (xG X) _ x1.toInt64 0 12 v0 h0) (lw_S q317 q318 q131 q319) hd_X0_isIn ⟨Nat.le_of_ble_eq_true rfl, Nat.le_of_ble_eq_true rfl⟩ rfl (Nat.le_of_ble_eq_true rfl) dX0_take_6 (fun v1 => ?_)
  refine s_if_ne O (tgt := 18) dX0_take_9 (by decide) ?_ ?_
  · refine s_iload_n O 1 rfl rfl dX0_take_18 ?_
    refine s_iconst O (x := 1) (by decide) dX0_take_19 ?_
    refine s_iadd O dX0_take_20 ?_
    refine x_newI O q204 dX0_take_21 (fun p3 s4 => ?_)
    refine s_astore_n O (L' := [(2, .ref p3), (0, .ref o), (1, .int x1)]) hm (by decide) rfl rfl dX0_take_23 ?_
    refine s_iconst O (x := 0) (by decide) dX0_take_24 ?_
    refine s_istore_n O (L' := [(3, .int 0), (2, .ref p3), (0, .ref o), (1, .int x1)]) hm (by decide) rfl rfl dX0_take_25 ?_
    refine Sim.sub (L' := [(0, .ref o), (1, .int x1), (2, .ref p3), (3, .int 0)]) [2, 3, 1, 0] rfl ?_
    refine s_while (A := Int32) (B := Unit) (La := fun a26 => [(0, .ref o), (1, .int x1), (2, .ref p3), (3, .int a26)]) (We := fun b26 s12 => xWX X 48 [(0, .ref o), (1, .int x1), (2, .ref p3)] [] ((xI) s12)) rfl rfl ?_ ?_
    · intro Cl hn he a26 s5
      unfold x0_take_s26
      refine s_iload_n O 3 rfl rfl dX0_take_26 ?_
      refine s_iload_n O 1 rfl rfl dX0_take_27 ?_
      refine s_icmp_gt O (tgt := 48) dX0_take_28 (by decide) ?_ ?_
      · refine Sim.sub (L' := [(0, .ref o), (1, .int x1), (2, .ref p3)]) [0, 1, 2] rfl ?_
        exact Sim.ret (he _ _)
      · refine s_aload_n O 2 rfl rfl dX0_take_31 ?_
        refine s_iload_n O 3 rfl rfl dX0_take_32 ?_
        refine s_aload_n O 0 rfl rfl dX0_take_33 ?_
        refine x_get O (ci := 0) (T := TX0) (N := 20) in_X0 rfl 3 (by decide) q234 (fun _ h => h) dX0_take_34 (fun v0 => ?_)
        refine s_vR (fun r6 => ?_)
        refine s_iload_n O 3 rfl rfl dX0_take_37 ?_
        refine s_dr (fun p7 hp8 => ?_)
        subst hp8
        refine x_callV O (enc2 := eI) (ci := 1) (av := [.int a26]) (rest := [.int a26, .ref p3]) 1 (fun v0 t0 h0 => mt_X1_size (xL X) (xG X) hfl hg p7 a26 _ t0 v0 h0) (lw_V q984 q985 q986 q132 q987) hv_X1_size ⟨Nat.le_of_ble_eq_true rfl, Nat.le_of_ble_eq_true rfl⟩ rfl rfl (Nat.le_of_ble_eq_true rfl) dX0_take_38 (fun v9 s10 => ?_)
        refine x_iast O dX0_take_41 (fun s11 => ?_)
        refine s_iinc O (y := (a26 + 1)) (L' := [(3, .int (a26 + 1)), (0, .ref o), (1, .int x1), (2, .ref p3)]) 3 rfl hm (by decide) rfl rfl dX0_take_42 ?_
        refine s_goto O (tgt := 26) dX0_take_45 (by decide) ?_
        refine Sim.sub (L' := [(0, .ref o), (1, .int x1), (2, .ref p3), (3, .int (a26 + 1))]) [1, 2, 3, 0] rfl ?_
        exact Sim.ret (hn _ _)
    · intro b26 s12
      show Sim X (xI) (retC X eI xI) 48 [(0, .ref o), (1, .int x1), (2, .ref p3)] [] s12 _
      refine s_aload_n O 0 rfl rfl dX0_take_48 ?_
      refine x_new O (ci := 1) (T := TX1) (N := 6) (fs := dfX1) in_X1 tyX1 tyX1_ok rfl 6 q165 q166 q132 rfl dfX1_ok dX0_take_49 (fun p13 s14 => ?_)
      refine s_dup O rfl dX0_take_52 ?_
      refine s_aload_n O 0 rfl rfl dX0_take_53 ?_
      refine x_get O (ci := 0) (T := TX0) (N := 20) in_X0 rfl 3 (by decide) q234 (fun _ h => h) dX0_take_54 (fun v0 => ?_)
      refine s_vR (fun r15 => ?_)
      refine s_dr (fun p16 hp17 => ?_)
      subst hp17
      refine x_getN O (ci := 1) (T := TX1) (N := 6) in_X1 rfl 0 (by decide) (zf_q206 hzz) (fun _ h => h) dX0_take_57 (fun v0 => ?_)
      refine s_vI (fun u18 => ?_)
      refine s_aload_n O 2 rfl rfl dX0_take_60 ?_
      refine x_callI O (enc2 := eU) (av := [.int u18, .ref p3]) (rest := [.ref p13, .ref o]) 2 (fun v0 t0 h0 => mt_X1_init_2 (xL X) (xG X) hfl hg p13 u18 p3 _ t0 v0 h0) q172 q132 q1290 q171 rfl hd_X1_init_2 ⟨Nat.le_of_ble_eq_true rfl, Nat.le_of_ble_eq_true rfl⟩ rfl (Nat.le_of_ble_eq_true rfl) dX0_take_61 (fun v19 s20 => ?_)
      refine s_aload_n O 0 rfl rfl dX0_take_64 ?_
      refine x_get O (ci := 0) (T := TX0) (N := 20) in_X0 rfl 3 (by decide) q234 (fun _ h => h) dX0_take_65 (fun v0 => ?_)
      refine s_vR (fun r21 => ?_)
      refine s_dr (fun p22 hp23 => ?_)
      subst hp23
      refine x_getN O (ci := 1) (T := TX1) (N := 6) in_X1 rfl 1 (by decide) (zf_q208 hzz) (fun _ h => h) dX0_take_68 (fun v0 => ?_)
      refine s_vR (fun r24 => ?_)
      refine s_dr (fun p25 hp26 => ?_)
      subst hp26
      refine x_callV O (enc2 := eR) (ci := 1) (av := [.ref p25]) (rest := [.ref o]) 1 (fun v0 t0 h0 => mt_X1_withAll (xL X) (xG X) hfl hg p13 p25 _ t0 v0 h0) (lw_V q1291 q775 q776 q132 q777) hv_X1_withAll ⟨Nat.le_of_ble_eq_true rfl, Nat.le_of_ble_eq_true rfl⟩ rfl rfl (Nat.le_of_ble_eq_true rfl) dX0_take_71 (fun r27 s28 => ?_)
      refine s_dr (fun p29 hp30 => ?_)
      subst hp30
      refine x_callV O (enc2 := eU) (ci := 0) (av := [.ref p29]) (rest := []) 1 (fun v0 t0 h0 => mt_X0_becomes (xL X) (xG X) hfl hg o p29 _ t0 v0 h0) (lw_V q892 q894 qs22 q131 q895) hv_X0_becomes ⟨Nat.le_of_ble_eq_true rfl, Nat.le_of_ble_eq_true rfl⟩ rfl rfl (Nat.le_of_ble_eq_true rfl) dX0_take_74 (fun v31 s32 => ?_)
      refine s_iload_n O 1 rfl rfl dX0_take_77 ?_
      refine s_iconst O (x := 1) (by decide) dX0_take_78 ?_
      refine s_iadd O dX0_take_79 ?_
      exact s_ireturn O hr rfl dX0_take_80
  · refine s_aload_n O 0 rfl rfl dX0_take_12 ?_
    refine s_iconst O (x := 2) (by decide) dX0_take_13 ?_
    refine x_callV O (enc2 := eI) (ci := 0) (av := [.int 2]) (rest := []) 1 (fun v0 t0 h0 => mt_X0_refused (xL X) (xG X) hfl hg o 2 _ t0 v0 h0) (lw_V q296 q298 qs0 q131 q299) hv_X0_refused ⟨Nat.le_of_ble_eq_true rfl, Nat.le_of_ble_eq_true rfl⟩ rfl rfl (Nat.le_of_ble_eq_true rfl) dX0_take_14 (fun v33 s34 => ?_)
    exact s_ireturn O hr rfl dX0_take_17
theorem mt_X0_take (l : Launch) (G : XG) (hfl : l.stackTraces = false) (hg : G.2.2.2.2 = zAll G.1.1 G.1.2.2.2 G.2.2.2.1) (o : Nat) (x1 : Int32) (s t : XS) (v : Int32) (h : x0_take o x1 s = some (v, t)) : xMet l yX0_take (ws_ yX0_take cX0_take 4 (some .int)) 8 216 G (xI s) [.ref o, .int x1] (eI v) (xI t) :=
  xMet_of (E := xI) (enc := eI) (by decide +kernel) (Nat.le_of_ble_eq_true rfl) (fun X hl hG O hr hm => by subst hl; subst hG; exact wk_X0_take O hfl hg hr hm o x1 s) h
theorem hd_X0_setRead : yX0_setRead.cls ≠ "java/lang/invoke/MethodHandle" ∧ yX0_setRead.cls ≠ "java/lang/invoke/VarHandle" ∧ (parseMethodDescriptor yX0_setRead.desc).map (fun d => d.parameters.length) = some 1 := by decide +kernel
theorem hv_X0_setRead : yX0_setRead.cls = RX0 ∧ yX0_setRead.cls ≠ "java/lang/invoke/MethodHandle" ∧ yX0_setRead.cls ≠ "java/lang/invoke/VarHandle" ∧ (parseMethodDescriptor yX0_setRead.desc).map (fun d => d.parameters.length) = some 1 := ⟨rfl, hd_X0_setRead⟩
theorem hu_X0_setRead : yX0_setRead.name ≠ "<init>" ∧ (parseMethodDescriptor yX0_setRead.desc).map (fun d => d.parameters.length) = some 1 := ⟨by decide +kernel, hd_X0_setRead.2.2⟩
set_option maxHeartbeats 4000000 in
set_option maxRecDepth 100000 in
theorem wk_X0_setRead {X : XC} (O : XOk X cX0_setRead RX0 3 62) (hfl : (xL X).stackTraces = false) (hg : (xG X).2.2.2.2 = zAll (xG X).1.1 (xG X).1.2.2.2 (xG X).2.2.2.1) (hr : (xMeth X).sig.returnType = (some (.array .boolean))) (hm : (xC X).maxLocals = 5) (o : Nat) (x1 : Int32) (s : XS) : Sim X xI (retC X eR xI) 0 [(0, .ref o), (1, .int x1)] [] s (x0_setRead o x1 s) := by
  have hzz := O.hst
  rw [hg] at hzz
  unfold x0_setRead
  refine s_iload_n O 1 rfl rfl dX0_setRead_0 ?_
  refine s_if_eq O (tgt := 21) dX0_setRead_1 (by decide) ?_ ?_
  · refine s_null O dX0_setRead_21 ?_
    exact s_areturnQ O (r := none) hr (Or.inr ⟨_, rfl⟩) rfl dX0_setRead_22
  · refine s_aload_n O 0 rfl rfl dX0_setRead_4 ?_
    refine x_get O (ci := 0) (T := TX0) (N := 20) in_X0 rfl 0 (by decide) q230 (fun _ h => h) dX0_setRead_5 (fun v0 => ?_)
    refine s_vR (fun r1 => ?_)
    refine s_iconst O (x := 0) (by decide) dX0_setRead_8 ?_
    refine s_dr (fun p2 hp3 => ?_)
    subst hp3
    refine x_bald O dX0_setRead_9 (fun u4 => ?_)
    refine s_i2l O dX0_setRead_10 ?_
    refine s_lconst O (x := 1) (by decide) dX0_setRead_11 ?_
    refine s_ldc2 O (x := 8) q1300 dX0_setRead_12 ?_
    refine s_callP O (enc2 := eI) (av := [.long u4.toInt64, .long 1, .long 8]) (rest := []) 3 (fun v0 h0 => mt_X0_isIn (xL X) (xG X) _ u4.toInt64 1 8 v0 h0) (lw_S q317 q318 q131 q319) hd_X0_isIn ⟨Nat.le_of_ble_eq_true rfl, Nat.le_of_ble_eq_true rfl⟩ rfl (Nat.le_of_ble_eq_true rfl) dX0_setRead_15 (fun v5 => ?_)
    refine s_if_ne O (tgt := 23) dX0_setRead_18 (by decide) ?_ ?_
    · refine s_aload_n O 0 rfl rfl dX0_setRead_23 ?_
      refine s_aload_n O 0 rfl rfl dX0_setRead_24 ?_
      refine x_get O (ci := 0) (T := TX0) (N := 20) in_X0 rfl 0 (by decide) q230 (fun _ h => h) dX0_setRead_25 (fun v0 => ?_)
      refine s_vR (fun r7 => ?_)
      refine s_iconst O (x := 0) (by decide) dX0_setRead_28 ?_
      refine s_dr (fun p8 hp9 => ?_)
      subst hp9
      refine x_bald O dX0_setRead_29 (fun u10 => ?_)
      refine x_callV O (enc2 := eI) (ci := 0) (av := [.int u10]) (rest := []) 1 (fun v0 t0 h0 => mt_X0_manyHere (xL X) (xG X) hfl hg o u10 _ t0 v0 h0) (lw_V q924 q926 qs23 q131 q927) hv_X0_manyHere ⟨Nat.le_of_ble_eq_true rfl, Nat.le_of_ble_eq_true rfl⟩ rfl rfl (Nat.le_of_ble_eq_true rfl) dX0_setRead_30 (fun v11 s12 => ?_)
      refine x_newZ O q1305 dX0_setRead_33 (fun p13 s14 => ?_)
      refine s_astore_n O (L' := [(2, .ref p13), (0, .ref o), (1, .int x1)]) hm (by decide) rfl rfl dX0_setRead_35 ?_
      refine s_iconst O (x := 1) (by decide) dX0_setRead_36 ?_
      refine s_istore_n O (L' := [(3, .int 1), (2, .ref p13), (0, .ref o), (1, .int x1)]) hm (by decide) rfl rfl dX0_setRead_37 ?_
      refine Sim.sub (L' := [(0, .ref o), (1, .int x1), (2, .ref p13), (3, .int 1)]) [2, 3, 1, 0] rfl ?_
      refine s_while (A := Int32) (B := (Unit) ⊕ (Unit)) (La := fun a38 => [(0, .ref o), (1, .int x1), (2, .ref p13), (3, .int a38)]) (We := fun bb0 s24 => match bb0 with | .inl b38 => xWX X 69 [] [] ((xI) s24) | .inr b38 => xWX X 82 [(2, .ref p13)] [] ((xI) s24)) rfl rfl ?_ ?_
      · intro Cl hn he a38 s15
        unfold x0_setRead_s38
        refine s_iload_n O 3 rfl rfl dX0_setRead_38 ?_
        refine s_iload_n O 1 rfl rfl dX0_setRead_39 ?_
        refine s_icmp_ge O (tgt := 82) dX0_setRead_40 (by decide) ?_ ?_
        · refine Sim.sub (L' := [(2, .ref p13)]) [2] rfl ?_
          exact Sim.ret (he _ _)
        · refine s_aload_n O 0 rfl rfl dX0_setRead_43 ?_
          refine x_get O (ci := 0) (T := TX0) (N := 20) in_X0 rfl 0 (by decide) q230 (fun _ h => h) dX0_setRead_44 (fun v0 => ?_)
          refine s_vR (fun r16 => ?_)
          refine s_iload_n O 3 rfl rfl dX0_setRead_47 ?_
          refine s_dr (fun p17 hp18 => ?_)
          subst hp18
          refine x_bald O dX0_setRead_48 (fun u19 => ?_)
          refine s_sipush O (x := 255) (by decide) dX0_setRead_49 ?_
          refine s_iand O dX0_setRead_52 ?_
          refine s_nmi fun u20 => ?_
          refine s_istore O (L' := [(4, .int u20), (0, .ref o), (1, .int x1), (2, .ref p13), (3, .int a38)]) hm (by decide) rfl dX0_setRead_53 ?_
          refine s_iload O 0 rfl dX0_setRead_55 ?_
          refine s_aload_n O 3 rfl rfl dX0_setRead_57 ?_
          refine x_alen O dX0_setRead_58 (fun u21 => ?_)
          refine s_icmp_ge O (tgt := 69) dX0_setRead_59 (by decide) ?_ ?_
          · refine Sim.sub (L' := []) [] rfl ?_
            exact Sim.ret (he _ _)
          · refine s_aload_n O 3 rfl rfl dX0_setRead_62 ?_
            refine s_iload O 0 rfl dX0_setRead_63 ?_
            refine x_zald O dX0_setRead_65 (fun u22 => ?_)
            refine s_if_eq O (tgt := 71) dX0_setRead_66 (by decide) ?_ ?_
            · refine s_aload_n O 3 rfl rfl dX0_setRead_71 ?_
              refine s_iload O 0 rfl dX0_setRead_72 ?_
              refine s_iconst O (x := 1) (by decide) dX0_setRead_74 ?_
              refine x_zast O dX0_setRead_75 (fun s23 => ?_)
              refine s_iinc O (y := (a38 + 1)) (L' := [(3, .int (a38 + 1)), (4, .int u20), (0, .ref o), (1, .int x1), (2, .ref p13)]) 4 rfl hm (by decide) rfl rfl dX0_setRead_76 ?_
              refine s_goto O (tgt := 38) dX0_setRead_79 (by decide) ?_
              refine Sim.sub (L' := [(0, .ref o), (1, .int x1), (2, .ref p13), (3, .int (a38 + 1))]) [2, 3, 4, 0] rfl ?_
              exact Sim.ret (hn _ _)
            · refine Sim.sub (L' := []) [] rfl ?_
              exact Sim.ret (he _ _)
      · intro bb0 s24
        rcases bb0 with b38 | b38
        · show Sim X (xI) (retC X eR xI) 69 [] [] s24 _
          dsimp only
          refine s_null O dX0_setRead_69 ?_
          exact s_areturnQ O (r := none) hr (Or.inr ⟨_, rfl⟩) rfl dX0_setRead_70
        · show Sim X (xI) (retC X eR xI) 82 [(2, .ref p13)] [] s24 _
          dsimp only
          refine s_aload_n O 0 rfl rfl dX0_setRead_82 ?_
          exact s_areturnQ O (r := (some p13)) hr (Or.inr ⟨_, rfl⟩) rfl dX0_setRead_83
    · refine s_null O dX0_setRead_21 ?_
      exact s_areturnQ O (r := none) hr (Or.inr ⟨_, rfl⟩) rfl dX0_setRead_22
theorem mt_X0_setRead (l : Launch) (G : XG) (hfl : l.stackTraces = false) (hg : G.2.2.2.2 = zAll G.1.1 G.1.2.2.2 G.2.2.2.1) (o : Nat) (x1 : Int32) (s t : XS) (v : Option Nat) (h : x0_setRead o x1 s = some (v, t)) : xMet l yX0_setRead (ws_ yX0_setRead cX0_setRead 5 (some (.array .boolean))) 3 62 G (xI s) [.ref o, .int x1] (eR v) (xI t) :=
  xMet_of (E := xI) (enc := eR) (by decide +kernel) (Nat.le_of_ble_eq_true rfl) (fun X hl hG O hr hm => by subst hl; subst hG; exact wk_X0_setRead O hfl hg hr hm o x1 s) h
theorem hd_X0_laysPowers : yX0_laysPowers.cls ≠ "java/lang/invoke/MethodHandle" ∧ yX0_laysPowers.cls ≠ "java/lang/invoke/VarHandle" ∧ (parseMethodDescriptor yX0_laysPowers.desc).map (fun d => d.parameters.length) = some 0 := by decide +kernel
theorem hv_X0_laysPowers : yX0_laysPowers.cls = RX0 ∧ yX0_laysPowers.cls ≠ "java/lang/invoke/MethodHandle" ∧ yX0_laysPowers.cls ≠ "java/lang/invoke/VarHandle" ∧ (parseMethodDescriptor yX0_laysPowers.desc).map (fun d => d.parameters.length) = some 0 := ⟨rfl, hd_X0_laysPowers⟩
theorem hu_X0_laysPowers : yX0_laysPowers.name ≠ "<init>" ∧ (parseMethodDescriptor yX0_laysPowers.desc).map (fun d => d.parameters.length) = some 0 := ⟨by decide +kernel, hd_X0_laysPowers.2.2⟩
set_option maxHeartbeats 4000000 in
set_option maxRecDepth 100000 in
theorem wk_X0_laysPowers {X : XC} (O : XOk X cX0_laysPowers RX0 5 113) (hfl : (xL X).stackTraces = false) (hg : (xG X).2.2.2.2 = zAll (xG X).1.1 (xG X).1.2.2.2 (xG X).2.2.2.1) (hr : (xMeth X).sig.returnType = none) (hm : (xC X).maxLocals = 2) (o : Nat) (s : XS) : Sim X xI (retC X eU xI) 0 [(0, .ref o)] [] s (x0_laysPowers o s) := by
  have hzz := O.hst
  rw [hg] at hzz
  unfold x0_laysPowers
  refine s_aload_n O 0 rfl rfl dX0_laysPowers_0 ?_
  refine s_iconst O (x := 4) (by decide) dX0_laysPowers_1 ?_
  refine s_aload_n O 0 rfl rfl dX0_laysPowers_2 ?_
  refine x_get O (ci := 0) (T := TX0) (N := 20) in_X0 rfl 12 (by decide) q243 (fun _ h => h) dX0_laysPowers_3 (fun v0 => ?_)
  refine s_vR (fun r1 => ?_)
  refine s_dr (fun p2 hp3 => ?_)
  subst hp3
  refine x_alen O dX0_laysPowers_6 (fun u4 => ?_)
  refine s_imul O dX0_laysPowers_7 ?_
  refine x_newI O q204 dX0_laysPowers_8 (fun p5 s6 => ?_)
  refine x_put O (ci := 0) (T := TX0) (N := 20) (ty := (.array .int)) in_X0 tyX0 tyX0_ok nmX0 rfl 14 (by decide) q245 (fun _ h => h) rfl (by decide +kernel) rfl rfl dX0_laysPowers_10 (fun s7 => ?_)
  refine s_iconst O (x := 0) (by decide) dX0_laysPowers_13 ?_
  refine s_istore_n O (L' := [(1, .int 0), (0, .ref o)]) hm (by decide) rfl rfl dX0_laysPowers_14 ?_
  refine Sim.sub (L' := [(0, .ref o), (1, .int 0)]) [1, 0] rfl ?_
  refine s_while (A := Int32) (B := Unit) (La := fun a15 => [(0, .ref o), (1, .int a15)]) (We := fun b15 s25 => xWX X 54 [] [] ((xI) s25)) rfl rfl ?_ ?_
  · intro Cl hn he a15 s8
    unfold x0_laysPowers_s15
    refine s_iload_n O 1 rfl rfl dX0_laysPowers_15 ?_
    refine s_aload_n O 0 rfl rfl dX0_laysPowers_16 ?_
    refine x_get O (ci := 0) (T := TX0) (N := 20) in_X0 rfl 12 (by decide) q243 (fun _ h => h) dX0_laysPowers_17 (fun v0 => ?_)
    refine s_vR (fun r9 => ?_)
    refine s_dr (fun p10 hp11 => ?_)
    subst hp11
    refine x_alen O dX0_laysPowers_20 (fun u12 => ?_)
    refine s_icmp_ge O (tgt := 54) dX0_laysPowers_21 (by decide) ?_ ?_
    · refine Sim.sub (L' := []) [] rfl ?_
      exact Sim.ret (he _ _)
    · refine s_aload_n O 0 rfl rfl dX0_laysPowers_24 ?_
      refine s_aload_n O 0 rfl rfl dX0_laysPowers_25 ?_
      refine x_get O (ci := 0) (T := TX0) (N := 20) in_X0 rfl 13 (by decide) q244 (fun _ h => h) dX0_laysPowers_26 (fun v0 => ?_)
      refine s_vI (fun u13 => ?_)
      refine s_iload_n O 1 rfl rfl dX0_laysPowers_29 ?_
      refine x_callV O (enc2 := eR) (ci := 0) (av := [.int u13, .int a15]) (rest := []) 2 (fun v0 t0 h0 => mt_X0_mono (xL X) (xG X) hfl hg o u13 a15 _ t0 v0 h0) (lw_V q941 q943 qs25 q131 q944) hv_X0_mono ⟨Nat.le_of_ble_eq_true rfl, Nat.le_of_ble_eq_true rfl⟩ rfl rfl (Nat.le_of_ble_eq_true rfl) dX0_laysPowers_30 (fun r14 s15 => ?_)
      refine s_dr (fun p16 hp17 => ?_)
      subst hp17
      refine x_getN O (ci := 5) (T := TX5) (N := 2) in_X5 rfl 0 (by decide) (zf_q708 hzz) (fun _ h => h) dX0_laysPowers_33 (fun v0 => ?_)
      refine s_vR (fun r18 => ?_)
      refine s_iconst O (x := 0) (by decide) dX0_laysPowers_36 ?_
      refine s_aload_n O 0 rfl rfl dX0_laysPowers_37 ?_
      refine x_get O (ci := 0) (T := TX0) (N := 20) in_X0 rfl 14 (by decide) q245 (fun _ h => h) dX0_laysPowers_38 (fun v0 => ?_)
      refine s_vR (fun r19 => ?_)
      refine s_iconst O (x := 4) (by decide) dX0_laysPowers_41 ?_
      refine s_iload_n O 1 rfl rfl dX0_laysPowers_42 ?_
      refine s_imul O dX0_laysPowers_43 ?_
      refine s_iconst O (x := 4) (by decide) dX0_laysPowers_44 ?_
      refine s_dr (fun p20 hp21 => ?_)
      subst hp21
      refine s_dr (fun p22 hp23 => ?_)
      subst hp23
      refine x_acI O (t := 0) (by decide) q1163 q459 q458 q145 ⟨Nat.le_of_ble_eq_true rfl, by decide⟩ (Nat.le_of_ble_eq_true rfl) dX0_laysPowers_45 (fun s24 => ?_)
      refine s_iinc O (y := (a15 + 1)) (L' := [(1, .int (a15 + 1)), (0, .ref o)]) 1 rfl hm (by decide) rfl rfl dX0_laysPowers_48 ?_
      refine s_goto O (tgt := 15) dX0_laysPowers_51 (by decide) ?_
      refine Sim.sub (L' := [(0, .ref o), (1, .int (a15 + 1))]) [1, 0] rfl ?_
      exact Sim.ret (hn _ _)
  · intro b15 s25
    show Sim X (xI) (retC X eU xI) 54 [] [] s25 _
    exact s_return O hr rfl dX0_laysPowers_54
theorem mt_X0_laysPowers (l : Launch) (G : XG) (hfl : l.stackTraces = false) (hg : G.2.2.2.2 = zAll G.1.1 G.1.2.2.2 G.2.2.2.1) (o : Nat) (s t : XS) (v : Unit) (h : x0_laysPowers o s = some (v, t)) : xMet l yX0_laysPowers (ws_ yX0_laysPowers cX0_laysPowers 2 none) 5 113 G (xI s) [.ref o] (eU v) (xI t) :=
  xMet_of (E := xI) (enc := eU) (by decide +kernel) (Nat.le_of_ble_eq_true rfl) (fun X hl hG O hr hm => by subst hl; subst hG; exact wk_X0_laysPowers O hfl hg hr hm o s) h
theorem hd_X0_set : yX0_set.cls ≠ "java/lang/invoke/MethodHandle" ∧ yX0_set.cls ≠ "java/lang/invoke/VarHandle" ∧ (parseMethodDescriptor yX0_set.desc).map (fun d => d.parameters.length) = some 0 := by decide +kernel
theorem hv_X0_set : yX0_set.cls = RX0 ∧ yX0_set.cls ≠ "java/lang/invoke/MethodHandle" ∧ yX0_set.cls ≠ "java/lang/invoke/VarHandle" ∧ (parseMethodDescriptor yX0_set.desc).map (fun d => d.parameters.length) = some 0 := ⟨rfl, hd_X0_set⟩
theorem hu_X0_set : yX0_set.name ≠ "<init>" ∧ (parseMethodDescriptor yX0_set.desc).map (fun d => d.parameters.length) = some 0 := ⟨by decide +kernel, hd_X0_set.2.2⟩
set_option maxHeartbeats 4000000 in
set_option maxRecDepth 100000 in
theorem wk_X0_set {X : XC} (O : XOk X cX0_set RX0 6 134) (hfl : (xL X).stackTraces = false) (hg : (xG X).2.2.2.2 = zAll (xG X).1.1 (xG X).1.2.2.2 (xG X).2.2.2.1) (hr : (xMeth X).sig.returnType = (some .int)) (hm : (xC X).maxLocals = 3) (o : Nat) (s : XS) : Sim X xI (retC X eI xI) 0 [(0, .ref o)] [] s (x0_set o s) := by
  have hzz := O.hst
  rw [hg] at hzz
  unfold x0_set
  refine s_aload_n O 0 rfl rfl dX0_set_0 ?_
  refine x_callV O (enc2 := eI) (ci := 0) (av := []) (rest := []) 0 (fun v0 t0 h0 => mt_X0_takesTape (xL X) (xG X) hfl hg o _ t0 v0 h0) (lw_V q327 q329 qs3 q131 q330) hv_X0_takesTape ⟨Nat.le_of_ble_eq_true rfl, Nat.le_of_ble_eq_true rfl⟩ rfl rfl (Nat.le_of_ble_eq_true rfl) dX0_set_1 (fun v1 s2 => ?_)
  refine s_istore_n O (L' := [(1, .int v1), (0, .ref o)]) hm (by decide) rfl rfl dX0_set_4 ?_
  refine s_aload_n O 1 rfl rfl dX0_set_5 ?_
  refine s_iload_n O 0 rfl rfl dX0_set_6 ?_
  refine x_callV O (enc2 := eR) (ci := 0) (av := [.int v1]) (rest := []) 1 (fun v0 t0 h0 => mt_X0_setRead (xL X) (xG X) hfl hg o v1 _ t0 v0 h0) (lw_V q1296 q1298 qs41 q131 q1299) hv_X0_setRead ⟨Nat.le_of_ble_eq_true rfl, Nat.le_of_ble_eq_true rfl⟩ rfl rfl (Nat.le_of_ble_eq_true rfl) dX0_set_7 (fun r3 s4 => ?_)
  refine s_astore_nQ O (r := r3) (L' := [(1, .int v1), (0, .ref o)]) rfl hm (by decide) (fun _ => rfl) dX0_set_10 ?_
  refine s_aload_nQ O 0 rfl rfl dX0_set_11 ?_
  refine s_ifnonnull O (tgt := 21) dX0_set_12 (by decide) (fun p5 hr0 => ?_) (fun hr0 => ?_)
  · subst hr0
    refine s_aload_n O 2 rfl rfl dX0_set_21 ?_
    refine s_aload_n O 0 rfl rfl dX0_set_22 ?_
    refine x_put O (ci := 0) (T := TX0) (N := 20) (ty := (.array .boolean)) in_X0 tyX0 tyX0_ok nmX0 rfl 12 (by decide) q243 (fun _ h => h) rfl (by decide +kernel) rfl rfl dX0_set_23 (fun s8 => ?_)
    refine s_aload_n O 2 rfl rfl dX0_set_26 ?_
    refine s_aload_n O 2 rfl rfl dX0_set_27 ?_
    refine x_get O (ci := 0) (T := TX0) (N := 20) in_X0 rfl 0 (by decide) q230 (fun _ h => h) dX0_set_28 (fun v0 => ?_)
    refine s_vR (fun r9 => ?_)
    refine s_iconst O (x := 0) (by decide) dX0_set_31 ?_
    refine s_dr (fun p10 hp11 => ?_)
    subst hp11
    refine x_bald O dX0_set_32 (fun u12 => ?_)
    refine x_put O (ci := 0) (T := TX0) (N := 20) (ty := .int) in_X0 tyX0 tyX0_ok nmX0 rfl 13 (by decide) q244 (fun _ h => h) rfl (by decide +kernel) rfl rfl dX0_set_33 (fun s13 => ?_)
    refine s_aload_n O 2 rfl rfl dX0_set_36 ?_
    refine s_iconst O (x := 0) (by decide) dX0_set_37 ?_
    refine x_put O (ci := 0) (T := TX0) (N := 20) (ty := .int) in_X0 tyX0 tyX0_ok nmX0 rfl 18 (by decide) q249 (fun _ h => h) rfl (by decide +kernel) rfl rfl dX0_set_38 (fun s14 => ?_)
    refine s_aload_n O 2 rfl rfl dX0_set_41 ?_
    refine x_callV O (enc2 := eU) (ci := 0) (av := []) (rest := []) 0 (fun v0 t0 h0 => mt_X0_laysPowers (xL X) (xG X) hfl hg o _ t0 v0 h0) (lw_V q1301 q1303 qs42 q131 q1304) hv_X0_laysPowers ⟨Nat.le_of_ble_eq_true rfl, Nat.le_of_ble_eq_true rfl⟩ rfl rfl (Nat.le_of_ble_eq_true rfl) dX0_set_42 (fun v15 s16 => ?_)
    refine s_iload_n O 1 rfl rfl dX0_set_45 ?_
    refine s_iconst O (x := 1) (by decide) dX0_set_46 ?_
    refine s_isub O dX0_set_47 ?_
    exact s_ireturn O hr rfl dX0_set_48
  · subst hr0
    refine s_aload_n O 2 rfl rfl dX0_set_15 ?_
    refine s_iconst O (x := 1) (by decide) dX0_set_16 ?_
    refine x_callV O (enc2 := eI) (ci := 0) (av := [.int 1]) (rest := []) 1 (fun v0 t0 h0 => mt_X0_refused (xL X) (xG X) hfl hg o 1 _ t0 v0 h0) (lw_V q296 q298 qs0 q131 q299) hv_X0_refused ⟨Nat.le_of_ble_eq_true rfl, Nat.le_of_ble_eq_true rfl⟩ rfl rfl (Nat.le_of_ble_eq_true rfl) dX0_set_17 (fun v6 s7 => ?_)
    exact s_ireturn O hr rfl dX0_set_20
theorem mt_X0_set (l : Launch) (G : XG) (hfl : l.stackTraces = false) (hg : G.2.2.2.2 = zAll G.1.1 G.1.2.2.2 G.2.2.2.1) (o : Nat) (s t : XS) (v : Int32) (h : x0_set o s = some (v, t)) : xMet l yX0_set (ws_ yX0_set cX0_set 3 (some .int)) 6 134 G (xI s) [.ref o] (eI v) (xI t) :=
  xMet_of (E := xI) (enc := eI) (by decide +kernel) (Nat.le_of_ble_eq_true rfl) (fun X hl hG O hr hm => by subst hl; subst hG; exact wk_X0_set O hfl hg hr hm o s) h
theorem hd_X0_holds : yX0_holds.cls ≠ "java/lang/invoke/MethodHandle" ∧ yX0_holds.cls ≠ "java/lang/invoke/VarHandle" ∧ (parseMethodDescriptor yX0_holds.desc).map (fun d => d.parameters.length) = some 1 := by decide +kernel
theorem hv_X0_holds : yX0_holds.cls = RX0 ∧ yX0_holds.cls ≠ "java/lang/invoke/MethodHandle" ∧ yX0_holds.cls ≠ "java/lang/invoke/VarHandle" ∧ (parseMethodDescriptor yX0_holds.desc).map (fun d => d.parameters.length) = some 1 := ⟨rfl, hd_X0_holds⟩
theorem hu_X0_holds : yX0_holds.name ≠ "<init>" ∧ (parseMethodDescriptor yX0_holds.desc).map (fun d => d.parameters.length) = some 1 := ⟨by decide +kernel, hd_X0_holds.2.2⟩
set_option maxHeartbeats 4000000 in
set_option maxRecDepth 100000 in
theorem wk_X0_holds {X : XC} (O : XOk X cX0_holds RX0 1 25) (hfl : (xL X).stackTraces = false) (hg : (xG X).2.2.2.2 = zAll (xG X).1.1 (xG X).1.2.2.2 (xG X).2.2.2.1) (hr : (xMeth X).sig.returnType = (some .int)) (hm : (xC X).maxLocals = 2) (o : Nat) (x1 : Int32) (s : XS) : Sim X xI (retC X eI xI) 0 [(0, .ref o), (1, .int x1)] [] s (x0_holds o x1 s) := by
  have hzz := O.hst
  rw [hg] at hzz
  unfold x0_holds
  refine s_aload_n O 0 rfl rfl dX0_holds_0 ?_
  refine x_get O (ci := 0) (T := TX0) (N := 20) in_X0 rfl 12 (by decide) q243 (fun _ h => h) dX0_holds_1 (fun v0 => ?_)
  refine s_vR (fun r1 => ?_)
  refine s_ifnull O (tgt := 36) dX0_holds_4 (by decide) (fun hr0 => ?_) (fun p2 hr0 => ?_)
  · subst hr0
    refine s_iconst O (x := (-1)) (by decide) dX0_holds_36 ?_
    exact s_ireturn O hr rfl dX0_holds_37
  · subst hr0
    refine s_iload_n O 1 rfl rfl dX0_holds_7 ?_
    refine s_i2l O dX0_holds_8 ?_
    refine s_lconst O (x := 0) (by decide) dX0_holds_9 ?_
    refine s_aload_n O 0 rfl rfl dX0_holds_10 ?_
    refine x_get O (ci := 0) (T := TX0) (N := 20) in_X0 rfl 12 (by decide) q243 (fun _ h => h) dX0_holds_11 (fun v0 => ?_)
    refine s_vR (fun r3 => ?_)
    refine s_dr (fun p4 hp5 => ?_)
    subst hp5
    refine x_alen O dX0_holds_14 (fun u6 => ?_)
    refine s_iconst O (x := 1) (by decide) dX0_holds_15 ?_
    refine s_isub O dX0_holds_16 ?_
    refine s_i2l O dX0_holds_17 ?_
    refine s_callP O (enc2 := eI) (av := [.long x1.toInt64, .long 0, .long ((u6 - 1).toInt64)]) (rest := []) 3 (fun v0 h0 => mt_X0_isIn (xL X) (xG X) _ x1.toInt64 0 ((u6 - 1).toInt64) v0 h0) (lw_S q317 q318 q131 q319) hd_X0_isIn ⟨Nat.le_of_ble_eq_true rfl, Nat.le_of_ble_eq_true rfl⟩ rfl (Nat.le_of_ble_eq_true rfl) dX0_holds_18 (fun v7 => ?_)
    refine s_if_eq O (tgt := 36) dX0_holds_21 (by decide) ?_ ?_
    · refine s_iconst O (x := (-1)) (by decide) dX0_holds_36 ?_
      exact s_ireturn O hr rfl dX0_holds_37
    · refine s_aload_n O 0 rfl rfl dX0_holds_24 ?_
      refine x_get O (ci := 0) (T := TX0) (N := 20) in_X0 rfl 12 (by decide) q243 (fun _ h => h) dX0_holds_25 (fun v0 => ?_)
      refine s_vR (fun r9 => ?_)
      refine s_iload_n O 1 rfl rfl dX0_holds_28 ?_
      refine s_dr (fun p10 hp11 => ?_)
      subst hp11
      refine x_zald O dX0_holds_29 (fun u12 => ?_)
      refine s_callP O (enc2 := eI) (av := [.int u12]) (rest := []) 1 (fun v0 h0 => mt_X0_flag (xL X) (xG X) _ u12 v0 h0) (lw_S q913 q914 q131 q915) hd_X0_flag ⟨Nat.le_of_ble_eq_true rfl, Nat.le_of_ble_eq_true rfl⟩ rfl (Nat.le_of_ble_eq_true rfl) dX0_holds_30 (fun v13 => ?_)
      refine s_goto O (tgt := 37) dX0_holds_33 (by decide) ?_
      exact s_ireturn O hr rfl dX0_holds_37
theorem mt_X0_holds (l : Launch) (G : XG) (hfl : l.stackTraces = false) (hg : G.2.2.2.2 = zAll G.1.1 G.1.2.2.2 G.2.2.2.1) (o : Nat) (x1 : Int32) (s t : XS) (v : Int32) (h : x0_holds o x1 s = some (v, t)) : xMet l yX0_holds (ws_ yX0_holds cX0_holds 2 (some .int)) 1 25 G (xI s) [.ref o, .int x1] (eI v) (xI t) :=
  xMet_of (E := xI) (enc := eI) (by decide +kernel) (Nat.le_of_ble_eq_true rfl) (fun X hl hG O hr hm => by subst hl; subst hG; exact wk_X0_holds O hfl hg hr hm o x1 s) h
theorem hd_X0_powerOf : yX0_powerOf.cls ≠ "java/lang/invoke/MethodHandle" ∧ yX0_powerOf.cls ≠ "java/lang/invoke/VarHandle" ∧ (parseMethodDescriptor yX0_powerOf.desc).map (fun d => d.parameters.length) = some 2 := by decide +kernel
theorem hv_X0_powerOf : yX0_powerOf.cls = RX0 ∧ yX0_powerOf.cls ≠ "java/lang/invoke/MethodHandle" ∧ yX0_powerOf.cls ≠ "java/lang/invoke/VarHandle" ∧ (parseMethodDescriptor yX0_powerOf.desc).map (fun d => d.parameters.length) = some 2 := ⟨rfl, hd_X0_powerOf⟩
theorem hu_X0_powerOf : yX0_powerOf.name ≠ "<init>" ∧ (parseMethodDescriptor yX0_powerOf.desc).map (fun d => d.parameters.length) = some 2 := ⟨by decide +kernel, hd_X0_powerOf.2.2⟩
set_option maxHeartbeats 4000000 in
set_option maxRecDepth 100000 in
theorem wk_X0_powerOf {X : XC} (O : XOk X cX0_powerOf RX0 0 0) (hfl : (xL X).stackTraces = false) (hg : (xG X).2.2.2.2 = zAll (xG X).1.1 (xG X).1.2.2.2 (xG X).2.2.2.1) (hr : (xMeth X).sig.returnType = (some .int)) (hm : (xC X).maxLocals = 3) (o : Nat) (x1 : Int32) (x2 : Int32) (s : XS) : Sim X xI (retC X eI xI) 0 [(0, .ref o), (1, .int x1), (2, .int x2)] [] s (x0_powerOf o x1 x2 s) := by
  have hzz := O.hst
  rw [hg] at hzz
  unfold x0_powerOf
  refine s_aload_n O 0 rfl rfl dX0_powerOf_0 ?_
  refine x_get O (ci := 0) (T := TX0) (N := 20) in_X0 rfl 14 (by decide) q245 (fun _ h => h) dX0_powerOf_1 (fun v0 => ?_)
  refine s_vR (fun r1 => ?_)
  refine s_iconst O (x := 4) (by decide) dX0_powerOf_4 ?_
  refine s_iload_n O 1 rfl rfl dX0_powerOf_5 ?_
  refine s_imul O dX0_powerOf_6 ?_
  refine s_iload_n O 2 rfl rfl dX0_powerOf_7 ?_
  refine s_iadd O dX0_powerOf_8 ?_
  refine s_dr (fun p2 hp3 => ?_)
  subst hp3
  refine x_iald O dX0_powerOf_9 (fun u4 => ?_)
  exact s_ireturn O hr rfl dX0_powerOf_10
theorem mt_X0_powerOf (l : Launch) (G : XG) (hfl : l.stackTraces = false) (hg : G.2.2.2.2 = zAll G.1.1 G.1.2.2.2 G.2.2.2.1) (o : Nat) (x1 : Int32) (x2 : Int32) (s t : XS) (v : Int32) (h : x0_powerOf o x1 x2 s = some (v, t)) : xMet l yX0_powerOf (ws_ yX0_powerOf cX0_powerOf 3 (some .int)) 0 0 G (xI s) [.ref o, .int x1, .int x2] (eI v) (xI t) :=
  xMet_of (E := xI) (enc := eI) (by decide +kernel) (Nat.le_of_ble_eq_true rfl) (fun X hl hG O hr hm => by subst hl; subst hG; exact wk_X0_powerOf O hfl hg hr hm o x1 x2 s) h
theorem hd_X0_pressedBy : yX0_pressedBy.cls ≠ "java/lang/invoke/MethodHandle" ∧ yX0_pressedBy.cls ≠ "java/lang/invoke/VarHandle" ∧ (parseMethodDescriptor yX0_pressedBy.desc).map (fun d => d.parameters.length) = some 2 := by decide +kernel
theorem hv_X0_pressedBy : yX0_pressedBy.cls = RX0 ∧ yX0_pressedBy.cls ≠ "java/lang/invoke/MethodHandle" ∧ yX0_pressedBy.cls ≠ "java/lang/invoke/VarHandle" ∧ (parseMethodDescriptor yX0_pressedBy.desc).map (fun d => d.parameters.length) = some 2 := ⟨rfl, hd_X0_pressedBy⟩
theorem hu_X0_pressedBy : yX0_pressedBy.name ≠ "<init>" ∧ (parseMethodDescriptor yX0_pressedBy.desc).map (fun d => d.parameters.length) = some 2 := ⟨by decide +kernel, hd_X0_pressedBy.2.2⟩
set_option maxHeartbeats 4000000 in
set_option maxRecDepth 100000 in
theorem wk_X0_pressedBy {X : XC} (O : XOk X cX0_pressedBy RX0 1 22) (hfl : (xL X).stackTraces = false) (hg : (xG X).2.2.2.2 = zAll (xG X).1.1 (xG X).1.2.2.2 (xG X).2.2.2.1) (hr : (xMeth X).sig.returnType = (some (.array .boolean))) (hm : (xC X).maxLocals = 7) (o : Nat) (x1 : Nat) (x2 : Int32) (s : XS) : Sim X xI (retC X eR xI) 0 [(0, .ref o), (1, .ref x1), (2, .int x2)] [] s (x0_pressedBy o x1 x2 s) := by
  have hzz := O.hst
  rw [hg] at hzz
  unfold x0_pressedBy
  refine s_aload_n O 1 rfl rfl dX0_pressedBy_0 ?_
  refine x_alen O dX0_pressedBy_1 (fun u1 => ?_)
  refine x_newZ O q1305 dX0_pressedBy_2 (fun p2 s3 => ?_)
  refine s_astore_n O (L' := [(3, .ref p2), (0, .ref o), (1, .ref x1), (2, .int x2)]) hm (by decide) rfl rfl dX0_pressedBy_4 ?_
  refine s_aload_n O 1 rfl rfl dX0_pressedBy_5 ?_
  refine x_get O (ci := 0) (T := TX0) (N := 20) in_X0 rfl 13 (by decide) q244 (fun _ h => h) dX0_pressedBy_6 (fun v0 => ?_)
  refine s_vI (fun u4 => ?_)
  refine s_iconst O (x := 1) (by decide) dX0_pressedBy_9 ?_
  refine s_iadd O dX0_pressedBy_10 ?_
  refine x_newI O q204 dX0_pressedBy_11 (fun p5 s6 => ?_)
  refine s_astore O (L' := [(4, .ref p5), (3, .ref p2), (0, .ref o), (1, .ref x1), (2, .int x2)]) hm (by decide) rfl dX0_pressedBy_13 ?_
  refine s_iconst O (x := 0) (by decide) dX0_pressedBy_15 ?_
  refine s_istore O (L' := [(5, .int 0), (4, .ref p5), (3, .ref p2), (0, .ref o), (1, .ref x1), (2, .int x2)]) hm (by decide) rfl dX0_pressedBy_16 ?_
  refine Sim.sub (L' := [(0, .ref o), (1, .ref x1), (2, .int x2), (3, .ref p2), (4, .ref p5), (5, .int 0)]) [3, 4, 5, 2, 1, 0] rfl ?_
  refine s_while (A := Int32) (B := Unit) (La := fun a18 => [(0, .ref o), (1, .ref x1), (2, .int x2), (3, .ref p2), (4, .ref p5), (5, .int a18)]) (We := fun b18 s14 => xWX X 52 [(0, .ref o), (1, .ref x1), (2, .int x2), (3, .ref p2), (4, .ref p5)] [] ((xI) s14)) rfl rfl ?_ ?_
  · intro Cl hn he a18 s7
    unfold x0_pressedBy_s18
    refine s_iload O 5 rfl dX0_pressedBy_18 ?_
    refine s_aload_n O 1 rfl rfl dX0_pressedBy_20 ?_
    refine x_alen O dX0_pressedBy_21 (fun u8 => ?_)
    refine s_icmp_ge O (tgt := 52) dX0_pressedBy_22 (by decide) ?_ ?_
    · refine Sim.sub (L' := [(0, .ref o), (1, .ref x1), (2, .int x2), (3, .ref p2), (4, .ref p5)]) [0, 1, 2, 3, 4] rfl ?_
      exact Sim.ret (he _ _)
    · refine s_aload_n O 1 rfl rfl dX0_pressedBy_25 ?_
      refine s_iload O 5 rfl dX0_pressedBy_26 ?_
      refine x_zald O dX0_pressedBy_28 (fun u9 => ?_)
      refine s_if_eq O (tgt := 46) dX0_pressedBy_29 (by decide) ?_ ?_
      · refine s_iinc O (y := (a18 + 1)) (L' := [(5, .int (a18 + 1)), (0, .ref o), (1, .ref x1), (2, .int x2), (3, .ref p2), (4, .ref p5)]) 5 rfl hm (by decide) rfl rfl dX0_pressedBy_46 ?_
        refine s_goto O (tgt := 18) dX0_pressedBy_49 (by decide) ?_
        refine Sim.sub (L' := [(0, .ref o), (1, .ref x1), (2, .int x2), (3, .ref p2), (4, .ref p5), (5, .int (a18 + 1))]) [1, 2, 3, 4, 5, 0] rfl ?_
        exact Sim.ret (hn _ _)
      · refine s_aload O 4 rfl dX0_pressedBy_32 ?_
        refine s_aload_n O 0 rfl rfl dX0_pressedBy_34 ?_
        refine s_iload O 5 rfl dX0_pressedBy_35 ?_
        refine s_iload_n O 2 rfl rfl dX0_pressedBy_37 ?_
        refine x_callV O (enc2 := eI) (ci := 0) (av := [.int a18, .int x2]) (rest := [.ref p5]) 2 (fun v0 t0 h0 => mt_X0_powerOf (xL X) (xG X) hfl hg o a18 x2 _ t0 v0 h0) (lw_V q1318 q1320 qs44 q131 q1321) hv_X0_powerOf ⟨Nat.le_of_ble_eq_true rfl, Nat.le_of_ble_eq_true rfl⟩ rfl rfl (Nat.le_of_ble_eq_true rfl) dX0_pressedBy_38 (fun v10 s11 => ?_)
        refine s_dup2 O rfl rfl dX0_pressedBy_41 ?_
        refine x_iald O dX0_pressedBy_42 (fun u12 => ?_)
        refine s_iconst O (x := 1) (by decide) dX0_pressedBy_43 ?_
        refine s_iadd O dX0_pressedBy_44 ?_
        refine x_iast O dX0_pressedBy_45 (fun s13 => ?_)
        refine s_iinc O (y := (a18 + 1)) (L' := [(5, .int (a18 + 1)), (0, .ref o), (1, .ref x1), (2, .int x2), (3, .ref p2), (4, .ref p5)]) 5 rfl hm (by decide) rfl rfl dX0_pressedBy_46 ?_
        refine s_goto O (tgt := 18) dX0_pressedBy_49 (by decide) ?_
        refine Sim.sub (L' := [(0, .ref o), (1, .ref x1), (2, .int x2), (3, .ref p2), (4, .ref p5), (5, .int (a18 + 1))]) [1, 2, 3, 4, 5, 0] rfl ?_
        exact Sim.ret (hn _ _)
  · intro b18 s14
    show Sim X (xI) (retC X eR xI) 52 [(0, .ref o), (1, .ref x1), (2, .int x2), (3, .ref p2), (4, .ref p5)] [] s14 _
    refine s_iconst O (x := 0) (by decide) dX0_pressedBy_52 ?_
    refine s_istore O (L' := [(5, .int 0), (0, .ref o), (1, .ref x1), (2, .int x2), (3, .ref p2), (4, .ref p5)]) hm (by decide) rfl dX0_pressedBy_53 ?_
    refine Sim.sub (L' := [(0, .ref o), (1, .ref x1), (2, .int x2), (3, .ref p2), (4, .ref p5), (5, .int 0)]) [1, 2, 3, 4, 5, 0] rfl ?_
    refine s_while (A := Int32) (B := Unit) (La := fun a55 => [(0, .ref o), (1, .ref x1), (2, .int x2), (3, .ref p2), (4, .ref p5), (5, .int a55)]) (We := fun b55 s24 => xWX X 103 [(3, .ref p2)] [] ((xI) s24)) rfl rfl ?_ ?_
    · intro Cl hn he a55 s15
      unfold x0_pressedBy_s55
      have hj87 : ∀ (x5_87 : Int32) (x6_87 : Int32) (k0_87 : Nat) (k1_87 : Int32) (k2_87 : Int32) (s20 : XS), Sim X (xI) Cl 87 [(0, .ref o), (1, .ref x1), (2, .int x2), (3, .ref p2), (4, .ref p5), (5, .int x5_87), (6, .int x6_87)] [.int k2_87, .int k1_87, .ref k0_87] s20 (x0_pressedBy_j87 p5 x5_87 x6_87 k0_87 k1_87 k2_87 s20) := by
        intro x5_87 x6_87 k0_87 k1_87 k2_87 s20
        unfold x0_pressedBy_j87
        refine x_zast O dX0_pressedBy_87 (fun s21 => ?_)
        refine s_aload O 4 rfl dX0_pressedBy_88 ?_
        refine s_iload O 6 rfl dX0_pressedBy_90 ?_
        refine s_dup2 O rfl rfl dX0_pressedBy_92 ?_
        refine x_iald O dX0_pressedBy_93 (fun u22 => ?_)
        refine s_iconst O (x := 1) (by decide) dX0_pressedBy_94 ?_
        refine s_isub O dX0_pressedBy_95 ?_
        refine x_iast O dX0_pressedBy_96 (fun s23 => ?_)
        refine s_iinc O (y := (x5_87 + 1)) (L' := [(5, .int (x5_87 + 1)), (0, .ref o), (1, .ref x1), (2, .int x2), (3, .ref p2), (4, .ref p5), (6, .int x6_87)]) 5 rfl hm (by decide) rfl rfl dX0_pressedBy_97 ?_
        refine s_goto O (tgt := 55) dX0_pressedBy_100 (by decide) ?_
        refine Sim.sub (L' := [(0, .ref o), (1, .ref x1), (2, .int x2), (3, .ref p2), (4, .ref p5), (5, .int (x5_87 + 1))]) [1, 2, 3, 4, 5, 0] rfl ?_
        exact Sim.ret (hn _ _)
      refine s_iload O 5 rfl dX0_pressedBy_55 ?_
      refine s_aload_n O 1 rfl rfl dX0_pressedBy_57 ?_
      refine x_alen O dX0_pressedBy_58 (fun u16 => ?_)
      refine s_icmp_ge O (tgt := 103) dX0_pressedBy_59 (by decide) ?_ ?_
      · refine Sim.sub (L' := [(3, .ref p2)]) [3] rfl ?_
        exact Sim.ret (he _ _)
      · refine s_aload_n O 0 rfl rfl dX0_pressedBy_62 ?_
        refine s_iload O 5 rfl dX0_pressedBy_63 ?_
        refine s_iload_n O 2 rfl rfl dX0_pressedBy_65 ?_
        refine x_callV O (enc2 := eI) (ci := 0) (av := [.int a55, .int x2]) (rest := []) 2 (fun v0 t0 h0 => mt_X0_powerOf (xL X) (xG X) hfl hg o a55 x2 _ t0 v0 h0) (lw_V q1318 q1320 qs44 q131 q1321) hv_X0_powerOf ⟨Nat.le_of_ble_eq_true rfl, Nat.le_of_ble_eq_true rfl⟩ rfl rfl (Nat.le_of_ble_eq_true rfl) dX0_pressedBy_66 (fun v17 s18 => ?_)
        refine s_istore O (L' := [(6, .int v17), (0, .ref o), (1, .ref x1), (2, .int x2), (3, .ref p2), (4, .ref p5), (5, .int a55)]) hm (by decide) rfl dX0_pressedBy_69 ?_
        refine s_aload_n O 4 rfl rfl dX0_pressedBy_71 ?_
        refine s_iload O 6 rfl dX0_pressedBy_72 ?_
        refine s_aload O 5 rfl dX0_pressedBy_74 ?_
        refine s_iload O 0 rfl dX0_pressedBy_76 ?_
        refine x_iald O dX0_pressedBy_78 (fun u19 => ?_)
        refine s_if_le O (tgt := 86) dX0_pressedBy_79 (by decide) ?_ ?_
        · refine s_iconst O (x := 0) (by decide) dX0_pressedBy_86 ?_
          refine Sim.sub (L' := [(0, .ref o), (1, .ref x1), (2, .int x2), (3, .ref p2), (4, .ref p5), (5, .int a55), (6, .int v17)]) [1, 2, 3, 4, 5, 6, 0] rfl ?_
          exact hj87 a55 v17 p2 a55 0 _
        · refine s_iconst O (x := 1) (by decide) dX0_pressedBy_82 ?_
          refine s_goto O (tgt := 87) dX0_pressedBy_83 (by decide) ?_
          refine Sim.sub (L' := [(0, .ref o), (1, .ref x1), (2, .int x2), (3, .ref p2), (4, .ref p5), (5, .int a55), (6, .int v17)]) [1, 2, 3, 4, 5, 6, 0] rfl ?_
          exact hj87 a55 v17 p2 a55 1 _
    · intro b55 s24
      show Sim X (xI) (retC X eR xI) 103 [(3, .ref p2)] [] s24 _
      refine s_aload_n O 0 rfl rfl dX0_pressedBy_103 ?_
      exact s_areturnQ O (r := (some p2)) hr (Or.inr ⟨_, rfl⟩) rfl dX0_pressedBy_104
theorem mt_X0_pressedBy (l : Launch) (G : XG) (hfl : l.stackTraces = false) (hg : G.2.2.2.2 = zAll G.1.1 G.1.2.2.2 G.2.2.2.1) (o : Nat) (x1 : Nat) (x2 : Int32) (s t : XS) (v : Option Nat) (h : x0_pressedBy o x1 x2 s = some (v, t)) : xMet l yX0_pressedBy (ws_ yX0_pressedBy cX0_pressedBy 7 (some (.array .boolean))) 1 22 G (xI s) [.ref o, .ref x1, .int x2] (eR v) (xI t) :=
  xMet_of (E := xI) (enc := eR) (by decide +kernel) (Nat.le_of_ble_eq_true rfl) (fun X hl hG O hr hm => by subst hl; subst hG; exact wk_X0_pressedBy O hfl hg hr hm o x1 x2 s) h
theorem hd_X0_come : yX0_come.cls ≠ "java/lang/invoke/MethodHandle" ∧ yX0_come.cls ≠ "java/lang/invoke/VarHandle" ∧ (parseMethodDescriptor yX0_come.desc).map (fun d => d.parameters.length) = some 2 := by decide +kernel
theorem hv_X0_come : yX0_come.cls = RX0 ∧ yX0_come.cls ≠ "java/lang/invoke/MethodHandle" ∧ yX0_come.cls ≠ "java/lang/invoke/VarHandle" ∧ (parseMethodDescriptor yX0_come.desc).map (fun d => d.parameters.length) = some 2 := ⟨rfl, hd_X0_come⟩
theorem hu_X0_come : yX0_come.name ≠ "<init>" ∧ (parseMethodDescriptor yX0_come.desc).map (fun d => d.parameters.length) = some 2 := ⟨by decide +kernel, hd_X0_come.2.2⟩
set_option maxHeartbeats 4000000 in
set_option maxRecDepth 100000 in
theorem wk_X0_come {X : XC} (O : XOk X cX0_come RX0 1 20) (hfl : (xL X).stackTraces = false) (hg : (xG X).2.2.2.2 = zAll (xG X).1.1 (xG X).1.2.2.2 (xG X).2.2.2.1) (hr : (xMeth X).sig.returnType = (some .int)) (hm : (xC X).maxLocals = 4) (x0 : Nat) (x1 : Nat) (s : XS) : Sim X xI (retC X eI xI) 0 [(0, .ref x0), (1, .ref x1)] [] s (x0_come x0 x1 s) := by
  have hzz := O.hst
  rw [hg] at hzz
  unfold x0_come
  refine s_iconst O (x := 0) (by decide) dX0_come_0 ?_
  refine s_istore_n O (L' := [(2, .int 0), (0, .ref x0), (1, .ref x1)]) hm (by decide) rfl rfl dX0_come_1 ?_
  refine s_iconst O (x := 0) (by decide) dX0_come_2 ?_
  refine s_istore_n O (L' := [(3, .int 0), (2, .int 0), (0, .ref x0), (1, .ref x1)]) hm (by decide) rfl rfl dX0_come_3 ?_
  refine Sim.sub (L' := [(0, .ref x0), (1, .ref x1), (2, .int 0), (3, .int 0)]) [2, 3, 1, 0] rfl ?_
  refine s_while (A := Int32 × Int32) (B := Int32) (La := fun a4 => [(0, .ref x0), (1, .ref x1), (2, .int a4.1), (3, .int a4.2)]) (We := fun b4 s12 => xWX X 39 [(2, .int b4)] [] ((xI) s12)) rfl rfl ?_ ?_
  · intro Cl hn he a4 s1
    unfold x0_come_s4
    have hj27 : ∀ (x3_27 : Int32) (k0_27 : Int32) (s4 : XS), Sim X (xI) Cl 27 [(0, .ref x0), (1, .ref x1), (3, .int x3_27)] [.int k0_27] s4 (x0_come_j27 x3_27 k0_27 s4) := by
      intro x3_27 k0_27 s4
      unfold x0_come_j27
      refine s_iconst O (x := 0) (by decide) dX0_come_27 ?_
      refine s_callP O (enc2 := eI) (av := [.int 0]) (rest := [.int k0_27]) 1 (fun v0 h0 => mt_X0_flag (xL X) (xG X) _ 0 v0 h0) (lw_S q913 q914 q131 q915) hd_X0_flag ⟨Nat.le_of_ble_eq_true rfl, Nat.le_of_ble_eq_true rfl⟩ rfl (Nat.le_of_ble_eq_true rfl) dX0_come_28 (fun v5 => ?_)
      refine s_iadd O dX0_come_31 ?_
      refine s_nmi fun u7 => ?_
      refine s_istore_n O (L' := [(2, .int u7), (0, .ref x0), (1, .ref x1), (3, .int x3_27)]) hm (by decide) rfl rfl dX0_come_32 ?_
      refine s_iinc O (y := (x3_27 + 1)) (L' := [(3, .int (x3_27 + 1)), (2, .int u7), (0, .ref x0), (1, .ref x1)]) 3 rfl hm (by decide) rfl rfl dX0_come_33 ?_
      refine s_goto O (tgt := 4) dX0_come_36 (by decide) ?_
      refine Sim.sub (L' := [(0, .ref x0), (1, .ref x1), (2, .int u7), (3, .int (x3_27 + 1))]) [2, 3, 1, 0] rfl ?_
      exact Sim.ret (hn _ _)
    refine s_iload_n O 3 rfl rfl dX0_come_4 ?_
    refine s_aload_n O 0 rfl rfl dX0_come_5 ?_
    refine x_alen O dX0_come_6 (fun u2 => ?_)
    refine s_icmp_ge O (tgt := 39) dX0_come_7 (by decide) ?_ ?_
    · refine Sim.sub (L' := [(2, .int a4.1)]) [2] rfl ?_
      exact Sim.ret (he _ _)
    · refine s_iload_n O 2 rfl rfl dX0_come_10 ?_
      refine s_aload_n O 0 rfl rfl dX0_come_11 ?_
      refine s_iload_n O 3 rfl rfl dX0_come_12 ?_
      refine x_zald O dX0_come_13 (fun u3 => ?_)
      refine s_if_eq O (tgt := 27) dX0_come_14 (by decide) ?_ ?_
      · refine Sim.sub (L' := [(0, .ref x0), (1, .ref x1), (3, .int a4.2)]) [0, 1, 3] rfl ?_
        exact hj27 a4.2 a4.1 _
      · refine s_aload_n O 1 rfl rfl dX0_come_17 ?_
        refine s_iload_n O 3 rfl rfl dX0_come_18 ?_
        refine x_zald O dX0_come_19 (fun u8 => ?_)
        refine s_if_ne O (tgt := 27) dX0_come_20 (by decide) ?_ ?_
        · refine Sim.sub (L' := [(0, .ref x0), (1, .ref x1), (3, .int a4.2)]) [0, 1, 3] rfl ?_
          exact hj27 a4.2 a4.1 _
        · refine s_iconst O (x := 1) (by decide) dX0_come_23 ?_
          refine s_goto O (tgt := 28) dX0_come_24 (by decide) ?_
          refine s_callP O (enc2 := eI) (av := [.int 1]) (rest := [.int a4.1]) 1 (fun v0 h0 => mt_X0_flag (xL X) (xG X) _ 1 v0 h0) (lw_S q913 q914 q131 q915) hd_X0_flag ⟨Nat.le_of_ble_eq_true rfl, Nat.le_of_ble_eq_true rfl⟩ rfl (Nat.le_of_ble_eq_true rfl) dX0_come_28 (fun v9 => ?_)
          refine s_iadd O dX0_come_31 ?_
          refine s_nmi fun u11 => ?_
          refine s_istore_n O (L' := [(2, .int u11), (0, .ref x0), (1, .ref x1), (3, .int a4.2)]) hm (by decide) rfl rfl dX0_come_32 ?_
          refine s_iinc O (y := (a4.2 + 1)) (L' := [(3, .int (a4.2 + 1)), (2, .int u11), (0, .ref x0), (1, .ref x1)]) 3 rfl hm (by decide) rfl rfl dX0_come_33 ?_
          refine s_goto O (tgt := 4) dX0_come_36 (by decide) ?_
          refine Sim.sub (L' := [(0, .ref x0), (1, .ref x1), (2, .int u11), (3, .int (a4.2 + 1))]) [2, 3, 1, 0] rfl ?_
          exact Sim.ret (hn _ _)
  · intro b4 s12
    show Sim X (xI) (retC X eI xI) 39 [(2, .int b4)] [] s12 _
    refine s_iload_n O 0 rfl rfl dX0_come_39 ?_
    exact s_ireturn O hr rfl dX0_come_40
theorem mt_X0_come (l : Launch) (G : XG) (hfl : l.stackTraces = false) (hg : G.2.2.2.2 = zAll G.1.1 G.1.2.2.2 G.2.2.2.1) (x0 : Nat) (x1 : Nat) (s t : XS) (v : Int32) (h : x0_come x0 x1 s = some (v, t)) : xMet l yX0_come (ws_ yX0_come cX0_come 4 (some .int)) 1 20 G (xI s) [.ref x0, .ref x1] (eI v) (xI t) :=
  xMet_of (E := xI) (enc := eI) (by decide +kernel) (Nat.le_of_ble_eq_true rfl) (fun X hl hG O hr hm => by subst hl; subst hG; exact wk_X0_come O hfl hg hr hm x0 x1 s) h
theorem hd_X0_press : yX0_press.cls ≠ "java/lang/invoke/MethodHandle" ∧ yX0_press.cls ≠ "java/lang/invoke/VarHandle" ∧ (parseMethodDescriptor yX0_press.desc).map (fun d => d.parameters.length) = some 1 := by decide +kernel
theorem hv_X0_press : yX0_press.cls = RX0 ∧ yX0_press.cls ≠ "java/lang/invoke/MethodHandle" ∧ yX0_press.cls ≠ "java/lang/invoke/VarHandle" ∧ (parseMethodDescriptor yX0_press.desc).map (fun d => d.parameters.length) = some 1 := ⟨rfl, hd_X0_press⟩
theorem hu_X0_press : yX0_press.name ≠ "<init>" ∧ (parseMethodDescriptor yX0_press.desc).map (fun d => d.parameters.length) = some 1 := ⟨by decide +kernel, hd_X0_press.2.2⟩
set_option maxHeartbeats 4000000 in
set_option maxRecDepth 100000 in
theorem wk_X0_press {X : XC} (O : XOk X cX0_press RX0 2 48) (hfl : (xL X).stackTraces = false) (hg : (xG X).2.2.2.2 = zAll (xG X).1.1 (xG X).1.2.2.2 (xG X).2.2.2.1) (hr : (xMeth X).sig.returnType = (some .int)) (hm : (xC X).maxLocals = 4) (o : Nat) (x1 : Int32) (s : XS) : Sim X xI (retC X eI xI) 0 [(0, .ref o), (1, .int x1)] [] s (x0_press o x1 s) := by
  have hzz := O.hst
  rw [hg] at hzz
  unfold x0_press
  refine s_aload_n O 0 rfl rfl dX0_press_0 ?_
  refine x_get O (ci := 0) (T := TX0) (N := 20) in_X0 rfl 12 (by decide) q243 (fun _ h => h) dX0_press_1 (fun v0 => ?_)
  refine s_vR (fun r1 => ?_)
  refine s_ifnull O (tgt := 37) dX0_press_4 (by decide) (fun hr0 => ?_) (fun p2 hr0 => ?_)
  · subst hr0
    refine s_aload_n O 0 rfl rfl dX0_press_37 ?_
    refine s_iconst O (x := 2) (by decide) dX0_press_38 ?_
    refine x_callV O (enc2 := eI) (ci := 0) (av := [.int 2]) (rest := []) 1 (fun v0 t0 h0 => mt_X0_refused (xL X) (xG X) hfl hg o 2 _ t0 v0 h0) (lw_V q296 q298 qs0 q131 q299) hv_X0_refused ⟨Nat.le_of_ble_eq_true rfl, Nat.le_of_ble_eq_true rfl⟩ rfl rfl (Nat.le_of_ble_eq_true rfl) dX0_press_39 (fun v3 s4 => ?_)
    exact s_ireturn O hr rfl dX0_press_42
  · subst hr0
    refine s_aload_n O 0 rfl rfl dX0_press_7 ?_
    refine x_get O (ci := 0) (T := TX0) (N := 20) in_X0 rfl 3 (by decide) q234 (fun _ h => h) dX0_press_8 (fun v0 => ?_)
    refine s_vR (fun r5 => ?_)
    refine s_dr (fun p6 hp7 => ?_)
    subst hp7
    refine x_getN O (ci := 1) (T := TX1) (N := 6) in_X1 rfl 0 (by decide) (zf_q206 hzz) (fun _ h => h) dX0_press_11 (fun v0 => ?_)
    refine s_vI (fun u8 => ?_)
    refine s_iconst O (x := 1) (by decide) dX0_press_14 ?_
    refine s_icmp_eq O (tgt := 37) dX0_press_15 (by decide) ?_ ?_
    · refine s_aload_n O 0 rfl rfl dX0_press_37 ?_
      refine s_iconst O (x := 2) (by decide) dX0_press_38 ?_
      refine x_callV O (enc2 := eI) (ci := 0) (av := [.int 2]) (rest := []) 1 (fun v0 t0 h0 => mt_X0_refused (xL X) (xG X) hfl hg o 2 _ t0 v0 h0) (lw_V q296 q298 qs0 q131 q299) hv_X0_refused ⟨Nat.le_of_ble_eq_true rfl, Nat.le_of_ble_eq_true rfl⟩ rfl rfl (Nat.le_of_ble_eq_true rfl) dX0_press_39 (fun v9 s10 => ?_)
      exact s_ireturn O hr rfl dX0_press_42
    · refine s_iload_n O 1 rfl rfl dX0_press_18 ?_
      refine s_i2l O dX0_press_19 ?_
      refine s_lconst O (x := 0) (by decide) dX0_press_20 ?_
      refine s_aload_n O 0 rfl rfl dX0_press_21 ?_
      refine x_get O (ci := 0) (T := TX0) (N := 20) in_X0 rfl 3 (by decide) q234 (fun _ h => h) dX0_press_22 (fun v0 => ?_)
      refine s_vR (fun r11 => ?_)
      refine s_dr (fun p12 hp13 => ?_)
      subst hp13
      refine x_getN O (ci := 1) (T := TX1) (N := 6) in_X1 rfl 0 (by decide) (zf_q206 hzz) (fun _ h => h) dX0_press_25 (fun v0 => ?_)
      refine s_vI (fun u14 => ?_)
      refine s_iconst O (x := 1) (by decide) dX0_press_28 ?_
      refine s_isub O dX0_press_29 ?_
      refine s_i2l O dX0_press_30 ?_
      refine s_callP O (enc2 := eI) (av := [.long x1.toInt64, .long 0, .long ((u14 - 1).toInt64)]) (rest := []) 3 (fun v0 h0 => mt_X0_isIn (xL X) (xG X) _ x1.toInt64 0 ((u14 - 1).toInt64) v0 h0) (lw_S q317 q318 q131 q319) hd_X0_isIn ⟨Nat.le_of_ble_eq_true rfl, Nat.le_of_ble_eq_true rfl⟩ rfl (Nat.le_of_ble_eq_true rfl) dX0_press_31 (fun v15 => ?_)
      refine s_if_ne O (tgt := 43) dX0_press_34 (by decide) ?_ ?_
      · refine s_aload_n O 0 rfl rfl dX0_press_43 ?_
        refine s_aload_n O 0 rfl rfl dX0_press_44 ?_
        refine x_get O (ci := 0) (T := TX0) (N := 20) in_X0 rfl 12 (by decide) q243 (fun _ h => h) dX0_press_45 (fun v0 => ?_)
        refine s_vR (fun r17 => ?_)
        refine s_iload_n O 1 rfl rfl dX0_press_48 ?_
        refine s_dr (fun p18 hp19 => ?_)
        subst hp19
        refine x_callV O (enc2 := eR) (ci := 0) (av := [.ref p18, .int x1]) (rest := []) 2 (fun v0 t0 h0 => mt_X0_pressedBy (xL X) (xG X) hfl hg o p18 x1 _ t0 v0 h0) (lw_V q1314 q1316 qs43 q131 q1317) hv_X0_pressedBy ⟨Nat.le_of_ble_eq_true rfl, Nat.le_of_ble_eq_true rfl⟩ rfl rfl (Nat.le_of_ble_eq_true rfl) dX0_press_49 (fun r20 s21 => ?_)
        refine s_astore_nQ O (r := r20) (L' := [(0, .ref o), (1, .int x1)]) rfl hm (by decide) (fun _ => rfl) dX0_press_52 ?_
        refine s_aload_nQ O 0 rfl rfl dX0_press_53 ?_
        refine s_aload_n O 1 rfl rfl dX0_press_54 ?_
        refine x_get O (ci := 0) (T := TX0) (N := 20) in_X0 rfl 12 (by decide) q243 (fun _ h => h) dX0_press_55 (fun v0 => ?_)
        refine s_vR (fun r22 => ?_)
        refine s_dr (fun p23 hp24 => ?_)
        subst hp24
        refine s_dr (fun p25 hp26 => ?_)
        subst hp26
        refine x_callS O (enc2 := eI) (av := [.ref p23, .ref p25]) (rest := []) 2 (fun v0 t0 h0 => mt_X0_come (xL X) (xG X) hfl hg p23 p25 _ t0 v0 h0) (lw_S q1322 q1323 q131 q1324) hd_X0_come ⟨Nat.le_of_ble_eq_true rfl, Nat.le_of_ble_eq_true rfl⟩ rfl (Nat.le_of_ble_eq_true rfl) dX0_press_58 (fun v27 s28 => ?_)
        refine s_istore_n O (L' := [(3, .int v27), (2, .ref p23), (0, .ref o), (1, .int x1)]) hm (by decide) rfl rfl dX0_press_61 ?_
        refine s_aload_n O 2 rfl rfl dX0_press_62 ?_
        refine s_aload_n O 1 rfl rfl dX0_press_63 ?_
        refine x_put O (ci := 0) (T := TX0) (N := 20) (ty := (.array .boolean)) in_X0 tyX0 tyX0_ok nmX0 rfl 12 (by decide) q243 (fun _ h => h) rfl (by decide +kernel) rfl rfl dX0_press_64 (fun s29 => ?_)
        refine s_iload_n O 0 rfl rfl dX0_press_67 ?_
        exact s_ireturn O hr rfl dX0_press_68
      · refine s_aload_n O 0 rfl rfl dX0_press_37 ?_
        refine s_iconst O (x := 2) (by decide) dX0_press_38 ?_
        refine x_callV O (enc2 := eI) (ci := 0) (av := [.int 2]) (rest := []) 1 (fun v0 t0 h0 => mt_X0_refused (xL X) (xG X) hfl hg o 2 _ t0 v0 h0) (lw_V q296 q298 qs0 q131 q299) hv_X0_refused ⟨Nat.le_of_ble_eq_true rfl, Nat.le_of_ble_eq_true rfl⟩ rfl rfl (Nat.le_of_ble_eq_true rfl) dX0_press_39 (fun v30 s31 => ?_)
        exact s_ireturn O hr rfl dX0_press_42
theorem mt_X0_press (l : Launch) (G : XG) (hfl : l.stackTraces = false) (hg : G.2.2.2.2 = zAll G.1.1 G.1.2.2.2 G.2.2.2.1) (o : Nat) (x1 : Int32) (s t : XS) (v : Int32) (h : x0_press o x1 s = some (v, t)) : xMet l yX0_press (ws_ yX0_press cX0_press 4 (some .int)) 2 48 G (xI s) [.ref o, .int x1] (eI v) (xI t) :=
  xMet_of (E := xI) (enc := eI) (by decide +kernel) (Nat.le_of_ble_eq_true rfl) (fun X hl hG O hr hm => by subst hl; subst hG; exact wk_X0_press O hfl hg hr hm o x1 s) h
theorem hd_X0_pressed : yX0_pressed.cls ≠ "java/lang/invoke/MethodHandle" ∧ yX0_pressed.cls ≠ "java/lang/invoke/VarHandle" ∧ (parseMethodDescriptor yX0_pressed.desc).map (fun d => d.parameters.length) = some 2 := by decide +kernel
theorem hv_X0_pressed : yX0_pressed.cls = RX0 ∧ yX0_pressed.cls ≠ "java/lang/invoke/MethodHandle" ∧ yX0_pressed.cls ≠ "java/lang/invoke/VarHandle" ∧ (parseMethodDescriptor yX0_pressed.desc).map (fun d => d.parameters.length) = some 2 := ⟨rfl, hd_X0_pressed⟩
theorem hu_X0_pressed : yX0_pressed.name ≠ "<init>" ∧ (parseMethodDescriptor yX0_pressed.desc).map (fun d => d.parameters.length) = some 2 := ⟨by decide +kernel, hd_X0_pressed.2.2⟩
set_option maxHeartbeats 4000000 in
set_option maxRecDepth 100000 in
theorem wk_X0_pressed {X : XC} (O : XOk X cX0_pressed RX0 1 25) (hfl : (xL X).stackTraces = false) (hg : (xG X).2.2.2.2 = zAll (xG X).1.1 (xG X).1.2.2.2 (xG X).2.2.2.1) (hr : (xMeth X).sig.returnType = (some .int)) (hm : (xC X).maxLocals = 3) (o : Nat) (x1 : Int32) (x2 : Int32) (s : XS) : Sim X xI (retC X eI xI) 0 [(0, .ref o), (1, .int x1), (2, .int x2)] [] s (x0_pressed o x1 x2 s) := by
  have hzz := O.hst
  rw [hg] at hzz
  unfold x0_pressed
  refine s_aload_n O 0 rfl rfl dX0_pressed_0 ?_
  refine x_get O (ci := 0) (T := TX0) (N := 20) in_X0 rfl 12 (by decide) q243 (fun _ h => h) dX0_pressed_1 (fun v0 => ?_)
  refine s_vR (fun r1 => ?_)
  refine s_ifnull O (tgt := 17) dX0_pressed_4 (by decide) (fun hr0 => ?_) (fun p2 hr0 => ?_)
  · subst hr0
    refine s_iconst O (x := (-1)) (by decide) dX0_pressed_17 ?_
    exact s_ireturn O hr rfl dX0_pressed_18
  · subst hr0
    refine s_iload_n O 2 rfl rfl dX0_pressed_7 ?_
    refine s_i2l O dX0_pressed_8 ?_
    refine s_lconst O (x := 0) (by decide) dX0_pressed_9 ?_
    refine s_lconst O (x := 1) (by decide) dX0_pressed_10 ?_
    refine s_callP O (enc2 := eI) (av := [.long x2.toInt64, .long 0, .long 1]) (rest := []) 3 (fun v0 h0 => mt_X0_isIn (xL X) (xG X) _ x2.toInt64 0 1 v0 h0) (lw_S q317 q318 q131 q319) hd_X0_isIn ⟨Nat.le_of_ble_eq_true rfl, Nat.le_of_ble_eq_true rfl⟩ rfl (Nat.le_of_ble_eq_true rfl) dX0_pressed_11 (fun v3 => ?_)
    refine s_if_ne O (tgt := 19) dX0_pressed_14 (by decide) ?_ ?_
    · refine s_iload_n O 1 rfl rfl dX0_pressed_19 ?_
      refine s_iconst O (x := (-1)) (by decide) dX0_pressed_20 ?_
      refine s_icmp_ne O (tgt := 37) dX0_pressed_21 (by decide) ?_ ?_
      · refine s_iload_n O 1 rfl rfl dX0_pressed_37 ?_
        refine s_i2l O dX0_pressed_38 ?_
        refine s_lconst O (x := 0) (by decide) dX0_pressed_39 ?_
        refine s_aload_n O 0 rfl rfl dX0_pressed_40 ?_
        refine x_get O (ci := 0) (T := TX0) (N := 20) in_X0 rfl 18 (by decide) q249 (fun _ h => h) dX0_pressed_41 (fun v0 => ?_)
        refine s_vI (fun u5 => ?_)
        refine s_bipush O (x := 100) (by decide) dX0_pressed_44 ?_
        refine s_callP O (enc2 := eI) (av := [.int u5, .int 100]) (rest := [.long 0, .long x1.toInt64]) 2 (fun v0 h0 => mt_J8_min (xL X) (xG X) _ u5 100 v0 h0) (lw_S q1329 q455 q143 q456) hd_J8_min ⟨Nat.le_of_ble_eq_true rfl, Nat.le_of_ble_eq_true rfl⟩ rfl (Nat.le_of_ble_eq_true rfl) dX0_pressed_46 (fun v6 => ?_)
        refine s_iconst O (x := 1) (by decide) dX0_pressed_49 ?_
        refine s_isub O dX0_pressed_50 ?_
        refine s_i2l O dX0_pressed_51 ?_
        refine s_callP O (enc2 := eI) (av := [.long x1.toInt64, .long 0, .long ((v6 - 1).toInt64)]) (rest := []) 3 (fun v0 h0 => mt_X0_isIn (xL X) (xG X) _ x1.toInt64 0 ((v6 - 1).toInt64) v0 h0) (lw_S q317 q318 q131 q319) hd_X0_isIn ⟨Nat.le_of_ble_eq_true rfl, Nat.le_of_ble_eq_true rfl⟩ rfl (Nat.le_of_ble_eq_true rfl) dX0_pressed_52 (fun v8 => ?_)
        refine s_if_eq O (tgt := 80) dX0_pressed_55 (by decide) ?_ ?_
        · refine s_iconst O (x := (-1)) (by decide) dX0_pressed_80 ?_
          exact s_ireturn O hr rfl dX0_pressed_81
        · refine s_iload_n O 2 rfl rfl dX0_pressed_58 ?_
          refine s_if_ne O (tgt := 71) dX0_pressed_59 (by decide) ?_ ?_
          · refine s_aload_n O 0 rfl rfl dX0_pressed_71 ?_
            refine x_get O (ci := 0) (T := TX0) (N := 20) in_X0 rfl 17 (by decide) q248 (fun _ h => h) dX0_pressed_72 (fun v0 => ?_)
            refine s_vR (fun r10 => ?_)
            refine s_iload_n O 1 rfl rfl dX0_pressed_75 ?_
            refine s_dr (fun p11 hp12 => ?_)
            subst hp12
            refine x_iald O dX0_pressed_76 (fun u13 => ?_)
            refine s_goto O (tgt := 81) dX0_pressed_77 (by decide) ?_
            exact s_ireturn O hr rfl dX0_pressed_81
          · refine s_aload_n O 0 rfl rfl dX0_pressed_62 ?_
            refine x_get O (ci := 0) (T := TX0) (N := 20) in_X0 rfl 16 (by decide) q247 (fun _ h => h) dX0_pressed_63 (fun v0 => ?_)
            refine s_vR (fun r14 => ?_)
            refine s_iload_n O 1 rfl rfl dX0_pressed_66 ?_
            refine s_dr (fun p15 hp16 => ?_)
            subst hp16
            refine x_iald O dX0_pressed_67 (fun u17 => ?_)
            refine s_goto O (tgt := 81) dX0_pressed_68 (by decide) ?_
            exact s_ireturn O hr rfl dX0_pressed_81
      · refine s_iload_n O 2 rfl rfl dX0_pressed_24 ?_
        refine s_if_ne O (tgt := 35) dX0_pressed_25 (by decide) ?_ ?_
        · refine s_iconst O (x := (-1)) (by decide) dX0_pressed_35 ?_
          exact s_ireturn O hr rfl dX0_pressed_36
        · refine s_aload_n O 0 rfl rfl dX0_pressed_28 ?_
          refine x_get O (ci := 0) (T := TX0) (N := 20) in_X0 rfl 18 (by decide) q249 (fun _ h => h) dX0_pressed_29 (fun v0 => ?_)
          refine s_vI (fun u18 => ?_)
          refine s_goto O (tgt := 36) dX0_pressed_32 (by decide) ?_
          exact s_ireturn O hr rfl dX0_pressed_36
    · refine s_iconst O (x := (-1)) (by decide) dX0_pressed_17 ?_
      exact s_ireturn O hr rfl dX0_pressed_18
theorem mt_X0_pressed (l : Launch) (G : XG) (hfl : l.stackTraces = false) (hg : G.2.2.2.2 = zAll G.1.1 G.1.2.2.2 G.2.2.2.1) (o : Nat) (x1 : Int32) (x2 : Int32) (s t : XS) (v : Int32) (h : x0_pressed o x1 x2 s = some (v, t)) : xMet l yX0_pressed (ws_ yX0_pressed cX0_pressed 3 (some .int)) 1 25 G (xI s) [.ref o, .int x1, .int x2] (eI v) (xI t) :=
  xMet_of (E := xI) (enc := eI) (by decide +kernel) (Nat.le_of_ble_eq_true rfl) (fun X hl hG O hr hm => by subst hl; subst hG; exact wk_X0_pressed O hfl hg hr hm o x1 x2 s) h
theorem hd_X0_pressOn : yX0_pressOn.cls ≠ "java/lang/invoke/MethodHandle" ∧ yX0_pressOn.cls ≠ "java/lang/invoke/VarHandle" ∧ (parseMethodDescriptor yX0_pressOn.desc).map (fun d => d.parameters.length) = some 0 := by decide +kernel
theorem hv_X0_pressOn : yX0_pressOn.cls = RX0 ∧ yX0_pressOn.cls ≠ "java/lang/invoke/MethodHandle" ∧ yX0_pressOn.cls ≠ "java/lang/invoke/VarHandle" ∧ (parseMethodDescriptor yX0_pressOn.desc).map (fun d => d.parameters.length) = some 0 := ⟨rfl, hd_X0_pressOn⟩
theorem hu_X0_pressOn : yX0_pressOn.name ≠ "<init>" ∧ (parseMethodDescriptor yX0_pressOn.desc).map (fun d => d.parameters.length) = some 0 := ⟨by decide +kernel, hd_X0_pressOn.2.2⟩
set_option maxHeartbeats 4000000 in
set_option maxRecDepth 100000 in
theorem wk_X0_pressOn {X : XC} (O : XOk X cX0_pressOn RX0 3 71) (hfl : (xL X).stackTraces = false) (hg : (xG X).2.2.2.2 = zAll (xG X).1.1 (xG X).1.2.2.2 (xG X).2.2.2.1) (hr : (xMeth X).sig.returnType = (some .int)) (hm : (xC X).maxLocals = 4) (o : Nat) (s : XS) : Sim X xI (retC X eI xI) 0 [(0, .ref o)] [] s (x0_pressOn o s) := by
  have hzz := O.hst
  rw [hg] at hzz
  unfold x0_pressOn
  refine s_aload_n O 0 rfl rfl dX0_pressOn_0 ?_
  refine x_get O (ci := 0) (T := TX0) (N := 20) in_X0 rfl 12 (by decide) q243 (fun _ h => h) dX0_pressOn_1 (fun v0 => ?_)
  refine s_vR (fun r1 => ?_)
  refine s_ifnull O (tgt := 18) dX0_pressOn_4 (by decide) (fun hr0 => ?_) (fun p2 hr0 => ?_)
  · subst hr0
    refine s_aload_n O 0 rfl rfl dX0_pressOn_18 ?_
    refine s_iconst O (x := 2) (by decide) dX0_pressOn_19 ?_
    refine x_callV O (enc2 := eI) (ci := 0) (av := [.int 2]) (rest := []) 1 (fun v0 t0 h0 => mt_X0_refused (xL X) (xG X) hfl hg o 2 _ t0 v0 h0) (lw_V q296 q298 qs0 q131 q299) hv_X0_refused ⟨Nat.le_of_ble_eq_true rfl, Nat.le_of_ble_eq_true rfl⟩ rfl rfl (Nat.le_of_ble_eq_true rfl) dX0_pressOn_20 (fun v3 s4 => ?_)
    exact s_ireturn O hr rfl dX0_pressOn_23
  · subst hr0
    refine s_aload_n O 0 rfl rfl dX0_pressOn_7 ?_
    refine x_get O (ci := 0) (T := TX0) (N := 20) in_X0 rfl 3 (by decide) q234 (fun _ h => h) dX0_pressOn_8 (fun v0 => ?_)
    refine s_vR (fun r5 => ?_)
    refine s_dr (fun p6 hp7 => ?_)
    subst hp7
    refine x_getN O (ci := 1) (T := TX1) (N := 6) in_X1 rfl 0 (by decide) (zf_q206 hzz) (fun _ h => h) dX0_pressOn_11 (fun v0 => ?_)
    refine s_vI (fun u8 => ?_)
    refine s_iconst O (x := 1) (by decide) dX0_pressOn_14 ?_
    refine s_icmp_ne O (tgt := 24) dX0_pressOn_15 (by decide) ?_ ?_
    · refine s_iconst O (x := 0) (by decide) dX0_pressOn_24 ?_
      refine s_istore_n O (L' := [(1, .int 0), (0, .ref o)]) hm (by decide) rfl rfl dX0_pressOn_25 ?_
      refine s_aload_n O 1 rfl rfl dX0_pressOn_26 ?_
      refine s_iconst O (x := 0) (by decide) dX0_pressOn_27 ?_
      refine x_put O (ci := 0) (T := TX0) (N := 20) (ty := .int) in_X0 tyX0 tyX0_ok nmX0 rfl 18 (by decide) q249 (fun _ h => h) rfl (by decide +kernel) rfl rfl dX0_pressOn_28 (fun s9 => ?_)
      refine s_iconst O (x := 0) (by decide) dX0_pressOn_31 ?_
      refine s_istore_n O (L' := [(2, .int 0), (1, .int 0), (0, .ref o)]) hm (by decide) rfl rfl dX0_pressOn_32 ?_
      refine Sim.sub (L' := [(0, .ref o), (1, .int 0), (2, .int 0)]) [2, 1, 0] rfl ?_
      refine s_while (A := Int32 × Int32) (B := Unit) (La := fun a33 => [(0, .ref o), (1, .int a33.1), (2, .int a33.2)]) (We := fun b33 s38 => xWX X 123 [(0, .ref o)] [] ((xI) s38)) rfl rfl ?_ ?_
      · intro Cl hn he a33 s10
        unfold x0_pressOn_s33
        have hj108 : ∀ (x1_108 : Int32) (x2_108 : Int32) (s22 : XS), Sim X (xI) Cl 108 [(0, .ref o), (1, .int x1_108), (2, .int x2_108)] [] s22 (x0_pressOn_j108 o x1_108 x2_108 s22) := by
          intro x1_108 x2_108 s22
          unfold x0_pressOn_j108
          refine s_iload_n O 2 rfl rfl dX0_pressOn_108 ?_
          refine s_iconst O (x := 1) (by decide) dX0_pressOn_109 ?_
          refine s_iadd O dX0_pressOn_110 ?_
          refine s_aload_n O 0 rfl rfl dX0_pressOn_111 ?_
          refine x_get O (ci := 0) (T := TX0) (N := 20) in_X0 rfl 3 (by decide) q234 (fun _ h => h) dX0_pressOn_112 (fun v0 => ?_)
          refine s_vR (fun r23 => ?_)
          refine s_dr (fun p24 hp25 => ?_)
          subst hp25
          refine x_getN O (ci := 1) (T := TX1) (N := 6) in_X1 rfl 0 (by decide) (zf_q206 hzz) (fun _ h => h) dX0_pressOn_115 (fun v0 => ?_)
          refine s_vI (fun u26 => ?_)
          refine s_irem O dX0_pressOn_118 ?_
          refine s_nmi fun u27 => ?_
          refine s_istore_n O (L' := [(2, .int u27), (0, .ref o), (1, .int x1_108)]) hm (by decide) rfl rfl dX0_pressOn_119 ?_
          refine s_goto O (tgt := 33) dX0_pressOn_120 (by decide) ?_
          refine Sim.sub (L' := [(0, .ref o), (1, .int x1_108), (2, .int u27)]) [1, 2, 0] rfl ?_
          exact Sim.ret (hn _ _)
        have hj98 : ∀ (x1_98 : Int32) (x2_98 : Int32) (s19 : XS), Sim X (xI) Cl 98 [(0, .ref o), (1, .int x1_98), (2, .int x2_98)] [] s19 (x0_pressOn_j98 o x1_98 x2_98 s19) := by
          intro x1_98 x2_98 s19
          unfold x0_pressOn_j98
          refine s_aload_n O 0 rfl rfl dX0_pressOn_98 ?_
          refine s_dup O rfl dX0_pressOn_99 ?_
          refine x_get O (ci := 0) (T := TX0) (N := 20) in_X0 rfl 18 (by decide) q249 (fun _ h => h) dX0_pressOn_100 (fun v0 => ?_)
          refine s_vI (fun u20 => ?_)
          refine s_iconst O (x := 1) (by decide) dX0_pressOn_103 ?_
          refine s_iadd O dX0_pressOn_104 ?_
          refine x_put O (ci := 0) (T := TX0) (N := 20) (ty := .int) in_X0 tyX0 tyX0_ok nmX0 rfl 18 (by decide) q249 (fun _ h => h) rfl (by decide +kernel) rfl rfl dX0_pressOn_105 (fun s21 => ?_)
          exact hj108 x1_98 x2_98 _
        have hj61 : ∀ (x2_61 : Int32) (x3_61 : Int32) (k0_61 : Int32) (s17 : XS), Sim X (xI) Cl 61 [(0, .ref o), (2, .int x2_61), (3, .int x3_61)] [.int k0_61] s17 (x0_pressOn_j61 o x2_61 x3_61 k0_61 s17) := by
          intro x2_61 x3_61 k0_61 s17
          unfold x0_pressOn_j61
          refine s_istore_n O (L' := [(1, .int k0_61), (0, .ref o), (2, .int x2_61), (3, .int x3_61)]) hm (by decide) rfl rfl dX0_pressOn_61 ?_
          refine s_iload_n O 3 rfl rfl dX0_pressOn_62 ?_
          refine s_if_ne O (tgt := 69) dX0_pressOn_63 (by decide) ?_ ?_
          · refine s_aload_n O 1 rfl rfl dX0_pressOn_69 ?_
            refine x_get O (ci := 0) (T := TX0) (N := 20) in_X0 rfl 18 (by decide) q249 (fun _ h => h) dX0_pressOn_70 (fun v0 => ?_)
            refine s_vI (fun u18 => ?_)
            refine s_bipush O (x := 100) (by decide) dX0_pressOn_73 ?_
            refine s_icmp_ge O (tgt := 98) dX0_pressOn_75 (by decide) ?_ ?_
            · refine Sim.sub (L' := [(0, .ref o), (1, .int k0_61), (2, .int x2_61)]) [1, 0, 2] rfl ?_
              exact hj98 k0_61 x2_61 _
            · refine s_aload_n O 1 rfl rfl dX0_pressOn_78 ?_
              refine x_get O (ci := 0) (T := TX0) (N := 20) in_X0 rfl 16 (by decide) q247 (fun _ h => h) dX0_pressOn_79 (fun v0 => ?_)
              refine s_vR (fun r28 => ?_)
              refine s_aload_n O 1 rfl rfl dX0_pressOn_82 ?_
              refine x_get O (ci := 0) (T := TX0) (N := 20) in_X0 rfl 18 (by decide) q249 (fun _ h => h) dX0_pressOn_83 (fun v0 => ?_)
              refine s_vI (fun u29 => ?_)
              refine s_iload_n O 2 rfl rfl dX0_pressOn_86 ?_
              refine s_dr (fun p30 hp31 => ?_)
              subst hp31
              refine x_iast O dX0_pressOn_87 (fun s32 => ?_)
              refine s_aload_n O 1 rfl rfl dX0_pressOn_88 ?_
              refine x_get O (ci := 0) (T := TX0) (N := 20) in_X0 rfl 17 (by decide) q248 (fun _ h => h) dX0_pressOn_89 (fun v0 => ?_)
              refine s_vR (fun r33 => ?_)
              refine s_aload_n O 1 rfl rfl dX0_pressOn_92 ?_
              refine x_get O (ci := 0) (T := TX0) (N := 20) in_X0 rfl 18 (by decide) q249 (fun _ h => h) dX0_pressOn_93 (fun v0 => ?_)
              refine s_vI (fun u34 => ?_)
              refine s_iload_n O 3 rfl rfl dX0_pressOn_96 ?_
              refine s_dr (fun p35 hp36 => ?_)
              subst hp36
              refine x_iast O dX0_pressOn_97 (fun s37 => ?_)
              refine Sim.sub (L' := [(0, .ref o), (1, .int k0_61), (2, .int x2_61)]) [1, 0, 2] rfl ?_
              exact hj98 k0_61 x2_61 _
          · refine s_goto O (tgt := 108) dX0_pressOn_66 (by decide) ?_
            refine Sim.sub (L' := [(0, .ref o), (1, .int k0_61), (2, .int x2_61)]) [1, 0, 2] rfl ?_
            exact hj108 k0_61 x2_61 _
        refine s_iload_n O 1 rfl rfl dX0_pressOn_33 ?_
        refine s_aload_n O 0 rfl rfl dX0_pressOn_34 ?_
        refine x_get O (ci := 0) (T := TX0) (N := 20) in_X0 rfl 3 (by decide) q234 (fun _ h => h) dX0_pressOn_35 (fun v0 => ?_)
        refine s_vR (fun r11 => ?_)
        refine s_dr (fun p12 hp13 => ?_)
        subst hp13
        refine x_getN O (ci := 1) (T := TX1) (N := 6) in_X1 rfl 0 (by decide) (zf_q206 hzz) (fun _ h => h) dX0_pressOn_38 (fun v0 => ?_)
        refine s_vI (fun u14 => ?_)
        refine s_icmp_ge O (tgt := 123) dX0_pressOn_41 (by decide) ?_ ?_
        · refine Sim.sub (L' := [(0, .ref o)]) [0] rfl ?_
          exact Sim.ret (he _ _)
        · refine s_aload_n O 0 rfl rfl dX0_pressOn_44 ?_
          refine s_iload_n O 2 rfl rfl dX0_pressOn_45 ?_
          refine x_callV O (enc2 := eI) (ci := 0) (av := [.int a33.2]) (rest := []) 1 (fun v0 t0 h0 => mt_X0_press (xL X) (xG X) hfl hg o a33.2 _ t0 v0 h0) (lw_V q1334 q1311 q1312 q131 q1313) hv_X0_press ⟨Nat.le_of_ble_eq_true rfl, Nat.le_of_ble_eq_true rfl⟩ rfl rfl (Nat.le_of_ble_eq_true rfl) dX0_pressOn_46 (fun v15 s16 => ?_)
          refine s_istore_n O (L' := [(3, .int v15), (0, .ref o), (1, .int a33.1), (2, .int a33.2)]) hm (by decide) rfl rfl dX0_pressOn_49 ?_
          refine s_iload_n O 0 rfl rfl dX0_pressOn_50 ?_
          refine s_if_le O (tgt := 58) dX0_pressOn_51 (by decide) ?_ ?_
          · refine s_iload_n O 2 rfl rfl dX0_pressOn_58 ?_
            refine s_iconst O (x := 1) (by decide) dX0_pressOn_59 ?_
            refine s_iadd O dX0_pressOn_60 ?_
            refine Sim.sub (L' := [(0, .ref o), (2, .int a33.2), (3, .int v15)]) [1, 3, 0] rfl ?_
            exact hj61 a33.2 v15 (a33.1 + 1) _
          · refine s_iconst O (x := 0) (by decide) dX0_pressOn_54 ?_
            refine s_goto O (tgt := 61) dX0_pressOn_55 (by decide) ?_
            refine Sim.sub (L' := [(0, .ref o), (2, .int a33.2), (3, .int v15)]) [1, 3, 0] rfl ?_
            exact hj61 a33.2 v15 0 _
      · intro b33 s38
        show Sim X (xI) (retC X eI xI) 123 [(0, .ref o)] [] s38 _
        refine s_aload_n O 0 rfl rfl dX0_pressOn_123 ?_
        refine x_get O (ci := 0) (T := TX0) (N := 20) in_X0 rfl 18 (by decide) q249 (fun _ h => h) dX0_pressOn_124 (fun v0 => ?_)
        refine s_vI (fun u39 => ?_)
        exact s_ireturn O hr rfl dX0_pressOn_127
    · refine s_aload_n O 0 rfl rfl dX0_pressOn_18 ?_
      refine s_iconst O (x := 2) (by decide) dX0_pressOn_19 ?_
      refine x_callV O (enc2 := eI) (ci := 0) (av := [.int 2]) (rest := []) 1 (fun v0 t0 h0 => mt_X0_refused (xL X) (xG X) hfl hg o 2 _ t0 v0 h0) (lw_V q296 q298 qs0 q131 q299) hv_X0_refused ⟨Nat.le_of_ble_eq_true rfl, Nat.le_of_ble_eq_true rfl⟩ rfl rfl (Nat.le_of_ble_eq_true rfl) dX0_pressOn_20 (fun v40 s41 => ?_)
      exact s_ireturn O hr rfl dX0_pressOn_23
theorem mt_X0_pressOn (l : Launch) (G : XG) (hfl : l.stackTraces = false) (hg : G.2.2.2.2 = zAll G.1.1 G.1.2.2.2 G.2.2.2.1) (o : Nat) (s t : XS) (v : Int32) (h : x0_pressOn o s = some (v, t)) : xMet l yX0_pressOn (ws_ yX0_pressOn cX0_pressOn 4 (some .int)) 3 71 G (xI s) [.ref o] (eI v) (xI t) :=
  xMet_of (E := xI) (enc := eI) (by decide +kernel) (Nat.le_of_ble_eq_true rfl) (fun X hl hG O hr hm => by subst hl; subst hG; exact wk_X0_pressOn O hfl hg hr hm o s) h
theorem hd_X0_isPressed : yX0_isPressed.cls ≠ "java/lang/invoke/MethodHandle" ∧ yX0_isPressed.cls ≠ "java/lang/invoke/VarHandle" ∧ (parseMethodDescriptor yX0_isPressed.desc).map (fun d => d.parameters.length) = some 0 := by decide +kernel
theorem hv_X0_isPressed : yX0_isPressed.cls = RX0 ∧ yX0_isPressed.cls ≠ "java/lang/invoke/MethodHandle" ∧ yX0_isPressed.cls ≠ "java/lang/invoke/VarHandle" ∧ (parseMethodDescriptor yX0_isPressed.desc).map (fun d => d.parameters.length) = some 0 := ⟨rfl, hd_X0_isPressed⟩
theorem hu_X0_isPressed : yX0_isPressed.name ≠ "<init>" ∧ (parseMethodDescriptor yX0_isPressed.desc).map (fun d => d.parameters.length) = some 0 := ⟨by decide +kernel, hd_X0_isPressed.2.2⟩
set_option maxHeartbeats 4000000 in
set_option maxRecDepth 100000 in
theorem wk_X0_isPressed {X : XC} (O : XOk X cX0_isPressed RX0 2 48) (hfl : (xL X).stackTraces = false) (hg : (xG X).2.2.2.2 = zAll (xG X).1.1 (xG X).1.2.2.2 (xG X).2.2.2.1) (hr : (xMeth X).sig.returnType = (some .boolean)) (hm : (xC X).maxLocals = 2) (o : Nat) (s : XS) : Sim X xI (retC X eI xI) 0 [(0, .ref o)] [] s (x0_isPressed o s) := by
  have hzz := O.hst
  rw [hg] at hzz
  unfold x0_isPressed
  refine s_iconst O (x := 0) (by decide) dX0_isPressed_0 ?_
  refine s_istore_n O (L' := [(1, .int 0), (0, .ref o)]) hm (by decide) rfl rfl dX0_isPressed_1 ?_
  refine Sim.sub (L' := [(0, .ref o), (1, .int 0)]) [1, 0] rfl ?_
  refine s_while (A := Int32) (B := (Unit) ⊕ (Unit)) (La := fun a2 => [(0, .ref o), (1, .int a2)]) (We := fun bb0 s22 => match bb0 with | .inl b2 => xWX X 43 [] [] ((xI) s22) | .inr b2 => xWX X 51 [] [] ((xI) s22)) rfl rfl ?_ ?_
  · intro Cl hn he a2 s1
    unfold x0_isPressed_s2
    refine s_iload_n O 1 rfl rfl dX0_isPressed_2 ?_
    refine s_aload_n O 0 rfl rfl dX0_isPressed_3 ?_
    refine x_get O (ci := 0) (T := TX0) (N := 20) in_X0 rfl 3 (by decide) q234 (fun _ h => h) dX0_isPressed_4 (fun v0 => ?_)
    refine s_vR (fun r2 => ?_)
    refine s_dr (fun p3 hp4 => ?_)
    subst hp4
    refine x_getN O (ci := 1) (T := TX1) (N := 6) in_X1 rfl 0 (by decide) (zf_q206 hzz) (fun _ h => h) dX0_isPressed_7 (fun v0 => ?_)
    refine s_vI (fun u5 => ?_)
    refine s_icmp_ge O (tgt := 51) dX0_isPressed_10 (by decide) ?_ ?_
    · refine Sim.sub (L' := []) [] rfl ?_
      exact Sim.ret (he _ _)
    · refine s_aload_n O 0 rfl rfl dX0_isPressed_13 ?_
      refine x_get O (ci := 0) (T := TX0) (N := 20) in_X0 rfl 3 (by decide) q234 (fun _ h => h) dX0_isPressed_14 (fun v0 => ?_)
      refine s_vR (fun r6 => ?_)
      refine s_dr (fun p7 hp8 => ?_)
      subst hp8
      refine x_getN O (ci := 1) (T := TX1) (N := 6) in_X1 rfl 0 (by decide) (zf_q206 hzz) (fun _ h => h) dX0_isPressed_17 (fun v0 => ?_)
      refine s_vI (fun u9 => ?_)
      refine s_iconst O (x := 1) (by decide) dX0_isPressed_20 ?_
      refine s_icmp_le O (tgt := 51) dX0_isPressed_21 (by decide) ?_ ?_
      · refine Sim.sub (L' := []) [] rfl ?_
        exact Sim.ret (he _ _)
      · refine s_aload_n O 0 rfl rfl dX0_isPressed_24 ?_
        refine s_aload_n O 0 rfl rfl dX0_isPressed_25 ?_
        refine x_get O (ci := 0) (T := TX0) (N := 20) in_X0 rfl 12 (by decide) q243 (fun _ h => h) dX0_isPressed_26 (fun v0 => ?_)
        refine s_vR (fun r10 => ?_)
        refine s_iload_n O 1 rfl rfl dX0_isPressed_29 ?_
        refine s_dr (fun p11 hp12 => ?_)
        subst hp12
        refine x_callV O (enc2 := eR) (ci := 0) (av := [.ref p11, .int a2]) (rest := []) 2 (fun v0 t0 h0 => mt_X0_pressedBy (xL X) (xG X) hfl hg o p11 a2 _ t0 v0 h0) (lw_V q1314 q1316 qs43 q131 q1317) hv_X0_pressedBy ⟨Nat.le_of_ble_eq_true rfl, Nat.le_of_ble_eq_true rfl⟩ rfl rfl (Nat.le_of_ble_eq_true rfl) dX0_isPressed_30 (fun r13 s14 => ?_)
        refine s_aload_n O 0 rfl rfl dX0_isPressed_33 ?_
        refine x_get O (ci := 0) (T := TX0) (N := 20) in_X0 rfl 12 (by decide) q243 (fun _ h => h) dX0_isPressed_34 (fun v0 => ?_)
        refine s_vR (fun r15 => ?_)
        refine s_dr (fun p16 hp17 => ?_)
        subst hp17
        refine s_dr (fun p18 hp19 => ?_)
        subst hp19
        refine x_callS O (enc2 := eI) (av := [.ref p16, .ref p18]) (rest := []) 2 (fun v0 t0 h0 => mt_X0_come (xL X) (xG X) hfl hg p16 p18 _ t0 v0 h0) (lw_S q1322 q1323 q131 q1324) hd_X0_come ⟨Nat.le_of_ble_eq_true rfl, Nat.le_of_ble_eq_true rfl⟩ rfl (Nat.le_of_ble_eq_true rfl) dX0_isPressed_37 (fun v20 s21 => ?_)
        refine s_if_le O (tgt := 45) dX0_isPressed_40 (by decide) ?_ ?_
        · refine s_iinc O (y := (a2 + 1)) (L' := [(1, .int (a2 + 1)), (0, .ref o)]) 1 rfl hm (by decide) rfl rfl dX0_isPressed_45 ?_
          refine s_goto O (tgt := 2) dX0_isPressed_48 (by decide) ?_
          refine Sim.sub (L' := [(0, .ref o), (1, .int (a2 + 1))]) [1, 0] rfl ?_
          exact Sim.ret (hn _ _)
        · refine Sim.sub (L' := []) [] rfl ?_
          exact Sim.ret (he _ _)
  · intro bb0 s22
    rcases bb0 with b2 | b2
    · show Sim X (xI) (retC X eI xI) 43 [] [] s22 _
      dsimp only
      refine s_iconst O (x := 0) (by decide) dX0_isPressed_43 ?_
      exact s_zreturnK O hr rfl rfl dX0_isPressed_44
    · show Sim X (xI) (retC X eI xI) 51 [] [] s22 _
      dsimp only
      refine s_iconst O (x := 1) (by decide) dX0_isPressed_51 ?_
      exact s_zreturnK O hr rfl rfl dX0_isPressed_52
theorem mt_X0_isPressed (l : Launch) (G : XG) (hfl : l.stackTraces = false) (hg : G.2.2.2.2 = zAll G.1.1 G.1.2.2.2 G.2.2.2.1) (o : Nat) (s t : XS) (v : Int32) (h : x0_isPressed o s = some (v, t)) : xMet l yX0_isPressed (ws_ yX0_isPressed cX0_isPressed 2 (some .boolean)) 2 48 G (xI s) [.ref o] (eI v) (xI t) :=
  xMet_of (E := xI) (enc := eI) (by decide +kernel) (Nat.le_of_ble_eq_true rfl) (fun X hl hG O hr hm => by subst hl; subst hG; exact wk_X0_isPressed O hfl hg hr hm o s) h
theorem hd_X0_firsts : yX0_firsts.cls ≠ "java/lang/invoke/MethodHandle" ∧ yX0_firsts.cls ≠ "java/lang/invoke/VarHandle" ∧ (parseMethodDescriptor yX0_firsts.desc).map (fun d => d.parameters.length) = some 1 := by decide +kernel
theorem hv_X0_firsts : yX0_firsts.cls = RX0 ∧ yX0_firsts.cls ≠ "java/lang/invoke/MethodHandle" ∧ yX0_firsts.cls ≠ "java/lang/invoke/VarHandle" ∧ (parseMethodDescriptor yX0_firsts.desc).map (fun d => d.parameters.length) = some 1 := ⟨rfl, hd_X0_firsts⟩
theorem hu_X0_firsts : yX0_firsts.name ≠ "<init>" ∧ (parseMethodDescriptor yX0_firsts.desc).map (fun d => d.parameters.length) = some 1 := ⟨by decide +kernel, hd_X0_firsts.2.2⟩
set_option maxHeartbeats 4000000 in
set_option maxRecDepth 100000 in
theorem wk_X0_firsts {X : XC} (O : XOk X cX0_firsts RX0 0 0) (hfl : (xL X).stackTraces = false) (hg : (xG X).2.2.2.2 = zAll (xG X).1.1 (xG X).1.2.2.2 (xG X).2.2.2.1) (hr : (xMeth X).sig.returnType = (some (.array .boolean))) (hm : (xC X).maxLocals = 4) (o : Nat) (x1 : Int32) (s : XS) : Sim X xI (retC X eR xI) 0 [(0, .ref o), (1, .int x1)] [] s (x0_firsts o x1 s) := by
  have hzz := O.hst
  rw [hg] at hzz
  unfold x0_firsts
  refine s_aload_n O 0 rfl rfl dX0_firsts_0 ?_
  refine x_get O (ci := 0) (T := TX0) (N := 20) in_X0 rfl 12 (by decide) q243 (fun _ h => h) dX0_firsts_1 (fun v0 => ?_)
  refine s_vR (fun r1 => ?_)
  refine s_dr (fun p2 hp3 => ?_)
  subst hp3
  refine x_alen O dX0_firsts_4 (fun u4 => ?_)
  refine x_newZ O q1305 dX0_firsts_5 (fun p5 s6 => ?_)
  refine s_astore_n O (L' := [(2, .ref p5), (0, .ref o), (1, .int x1)]) hm (by decide) rfl rfl dX0_firsts_7 ?_
  refine s_iconst O (x := 0) (by decide) dX0_firsts_8 ?_
  refine s_istore_n O (L' := [(3, .int 0), (2, .ref p5), (0, .ref o), (1, .int x1)]) hm (by decide) rfl rfl dX0_firsts_9 ?_
  refine Sim.sub (L' := [(1, .int x1), (2, .ref p5), (3, .int 0)]) [3, 1, 0] rfl ?_
  refine s_while (A := Int32) (B := Unit) (La := fun a10 => [(1, .int x1), (2, .ref p5), (3, .int a10)]) (We := fun b10 s9 => xWX X 25 [(2, .ref p5)] [] ((xI) s9)) rfl rfl ?_ ?_
  · intro Cl hn he a10 s7
    unfold x0_firsts_s10
    refine s_iload_n O 2 rfl rfl dX0_firsts_10 ?_
    refine s_iload_n O 0 rfl rfl dX0_firsts_11 ?_
    refine s_icmp_ge O (tgt := 25) dX0_firsts_12 (by decide) ?_ ?_
    · refine Sim.sub (L' := [(2, .ref p5)]) [1] rfl ?_
      exact Sim.ret (he _ _)
    · refine s_aload_n O 1 rfl rfl dX0_firsts_15 ?_
      refine s_iload_n O 2 rfl rfl dX0_firsts_16 ?_
      refine s_iconst O (x := 1) (by decide) dX0_firsts_17 ?_
      refine x_zast O dX0_firsts_18 (fun s8 => ?_)
      refine s_iinc O (y := (a10 + 1)) (L' := [(3, .int (a10 + 1)), (1, .int x1), (2, .ref p5)]) 2 rfl hm (by decide) rfl rfl dX0_firsts_19 ?_
      refine s_goto O (tgt := 10) dX0_firsts_22 (by decide) ?_
      refine Sim.sub (L' := [(1, .int x1), (2, .ref p5), (3, .int (a10 + 1))]) [1, 2, 0] rfl ?_
      exact Sim.ret (hn _ _)
  · intro b10 s9
    show Sim X (xI) (retC X eR xI) 25 [(2, .ref p5)] [] s9 _
    refine s_aload_n O 0 rfl rfl dX0_firsts_25 ?_
    exact s_areturnQ O (r := (some p5)) hr (Or.inr ⟨_, rfl⟩) rfl dX0_firsts_26
theorem mt_X0_firsts (l : Launch) (G : XG) (hfl : l.stackTraces = false) (hg : G.2.2.2.2 = zAll G.1.1 G.1.2.2.2 G.2.2.2.1) (o : Nat) (x1 : Int32) (s t : XS) (v : Option Nat) (h : x0_firsts o x1 s = some (v, t)) : xMet l yX0_firsts (ws_ yX0_firsts cX0_firsts 4 (some (.array .boolean))) 0 0 G (xI s) [.ref o, .int x1] (eR v) (xI t) :=
  xMet_of (E := xI) (enc := eR) (by decide +kernel) (Nat.le_of_ble_eq_true rfl) (fun X hl hG O hr hm => by subst hl; subst hG; exact wk_X0_firsts O hfl hg hr hm o x1 s) h
theorem hd_X0_shadow : yX0_shadow.cls ≠ "java/lang/invoke/MethodHandle" ∧ yX0_shadow.cls ≠ "java/lang/invoke/VarHandle" ∧ (parseMethodDescriptor yX0_shadow.desc).map (fun d => d.parameters.length) = some 1 := by decide +kernel
theorem hv_X0_shadow : yX0_shadow.cls = RX0 ∧ yX0_shadow.cls ≠ "java/lang/invoke/MethodHandle" ∧ yX0_shadow.cls ≠ "java/lang/invoke/VarHandle" ∧ (parseMethodDescriptor yX0_shadow.desc).map (fun d => d.parameters.length) = some 1 := ⟨rfl, hd_X0_shadow⟩
theorem hu_X0_shadow : yX0_shadow.name ≠ "<init>" ∧ (parseMethodDescriptor yX0_shadow.desc).map (fun d => d.parameters.length) = some 1 := ⟨by decide +kernel, hd_X0_shadow.2.2⟩
set_option maxHeartbeats 4000000 in
set_option maxRecDepth 100000 in
theorem wk_X0_shadow {X : XC} (O : XOk X cX0_shadow RX0 3 67) (hfl : (xL X).stackTraces = false) (hg : (xG X).2.2.2.2 = zAll (xG X).1.1 (xG X).1.2.2.2 (xG X).2.2.2.1) (hr : (xMeth X).sig.returnType = (some .int)) (hm : (xC X).maxLocals = 5) (o : Nat) (x1 : Nat) (s : XS) : Sim X xI (retC X eI xI) 0 [(0, .ref o), (1, .ref x1)] [] s (x0_shadow o x1 s) := by
  have hzz := O.hst
  rw [hg] at hzz
  unfold x0_shadow
  refine s_aload_n O 0 rfl rfl dX0_shadow_0 ?_
  refine s_aload_n O 0 rfl rfl dX0_shadow_1 ?_
  refine x_get O (ci := 0) (T := TX0) (N := 20) in_X0 rfl 13 (by decide) q244 (fun _ h => h) dX0_shadow_2 (fun v0 => ?_)
  refine s_vI (fun u1 => ?_)
  refine s_iconst O (x := 1) (by decide) dX0_shadow_5 ?_
  refine s_iadd O dX0_shadow_6 ?_
  refine x_callV O (enc2 := eI) (ci := 0) (av := [.int (u1 + 1)]) (rest := []) 1 (fun v0 t0 h0 => mt_X0_manyHere (xL X) (xG X) hfl hg o (u1 + 1) _ t0 v0 h0) (lw_V q924 q926 qs23 q131 q927) hv_X0_manyHere ⟨Nat.le_of_ble_eq_true rfl, Nat.le_of_ble_eq_true rfl⟩ rfl rfl (Nat.le_of_ble_eq_true rfl) dX0_shadow_7 (fun v2 s3 => ?_)
  refine x_newZ O q1305 dX0_shadow_10 (fun p4 s5 => ?_)
  refine s_astore_n O (L' := [(2, .ref p4), (0, .ref o), (1, .ref x1)]) hm (by decide) rfl rfl dX0_shadow_12 ?_
  refine s_iconst O (x := 0) (by decide) dX0_shadow_13 ?_
  refine s_istore_n O (L' := [(3, .int 0), (2, .ref p4), (0, .ref o), (1, .ref x1)]) hm (by decide) rfl rfl dX0_shadow_14 ?_
  refine Sim.sub (L' := [(0, .ref o), (1, .ref x1), (2, .ref p4), (3, .int 0)]) [2, 3, 1, 0] rfl ?_
  refine s_while (A := Int32) (B := Unit) (La := fun a15 => [(0, .ref o), (1, .ref x1), (2, .ref p4), (3, .int a15)]) (We := fun b15 s43 => xWX X 118 [(2, .ref p4)] [] ((xI) s43)) rfl rfl ?_ ?_
  · intro Cl hn he a15 s6
    unfold x0_shadow_s15
    refine s_iload_n O 3 rfl rfl dX0_shadow_15 ?_
    refine s_aload_n O 1 rfl rfl dX0_shadow_16 ?_
    refine x_alen O dX0_shadow_17 (fun u7 => ?_)
    refine s_icmp_ge O (tgt := 118) dX0_shadow_18 (by decide) ?_ ?_
    · refine Sim.sub (L' := [(2, .ref p4)]) [2] rfl ?_
      exact Sim.ret (he _ _)
    · refine s_aload_n O 1 rfl rfl dX0_shadow_21 ?_
      refine s_iload_n O 3 rfl rfl dX0_shadow_22 ?_
      refine x_zald O dX0_shadow_23 (fun u8 => ?_)
      refine s_if_ne O (tgt := 30) dX0_shadow_24 (by decide) ?_ ?_
      · refine s_aload_n O 0 rfl rfl dX0_shadow_30 ?_
        refine x_get O (ci := 0) (T := TX0) (N := 20) in_X0 rfl 14 (by decide) q245 (fun _ h => h) dX0_shadow_31 (fun v0 => ?_)
        refine s_vR (fun r9 => ?_)
        refine s_iconst O (x := 4) (by decide) dX0_shadow_34 ?_
        refine s_iload_n O 3 rfl rfl dX0_shadow_35 ?_
        refine s_imul O dX0_shadow_36 ?_
        refine s_aload_n O 0 rfl rfl dX0_shadow_37 ?_
        refine x_get O (ci := 0) (T := TX0) (N := 20) in_X0 rfl 15 (by decide) q246 (fun _ h => h) dX0_shadow_38 (fun v0 => ?_)
        refine s_vR (fun r10 => ?_)
        refine s_iconst O (x := 0) (by decide) dX0_shadow_41 ?_
        refine s_iconst O (x := 4) (by decide) dX0_shadow_42 ?_
        refine s_dr (fun p11 hp12 => ?_)
        subst hp12
        refine s_dr (fun p13 hp14 => ?_)
        subst hp14
        refine x_acI O (t := 0) (by decide) q1163 q459 q458 q145 ⟨Nat.le_of_ble_eq_true rfl, by decide⟩ (Nat.le_of_ble_eq_true rfl) dX0_shadow_43 (fun s15 => ?_)
        refine s_iconst O (x := 0) (by decide) dX0_shadow_46 ?_
        refine s_istore O (L' := [(4, .int 0), (0, .ref o), (1, .ref x1), (2, .ref p4), (3, .int a15)]) hm (by decide) rfl dX0_shadow_47 ?_
        refine Sim.sub (L' := [(0, .ref o), (1, .ref x1), (2, .ref p4), (3, .int a15), (4, .int 0)]) [1, 2, 3, 4, 0] rfl ?_
        refine s_while (A := Int32) (B := Unit) (La := fun a49 => [(0, .ref o), (1, .ref x1), (2, .ref p4), (3, .int a15), (4, .int a49)]) (We := fun b49 s42 => xWX X 112 [(0, .ref o), (1, .ref x1), (2, .ref p4), (3, .int a15)] [] ((xI) s42)) rfl rfl ?_ ?_
        · intro Cl hn he a49 s16
          unfold x0_shadow_s49
          refine s_iload O 4 rfl dX0_shadow_49 ?_
          refine s_aload_n O 0 rfl rfl dX0_shadow_51 ?_
          refine x_get O (ci := 0) (T := TX0) (N := 20) in_X0 rfl 3 (by decide) q234 (fun _ h => h) dX0_shadow_52 (fun v0 => ?_)
          refine s_vR (fun r17 => ?_)
          refine s_dr (fun p18 hp19 => ?_)
          subst hp19
          refine x_getN O (ci := 1) (T := TX1) (N := 6) in_X1 rfl 0 (by decide) (zf_q206 hzz) (fun _ h => h) dX0_shadow_55 (fun v0 => ?_)
          refine s_vI (fun u20 => ?_)
          refine s_icmp_ge O (tgt := 112) dX0_shadow_58 (by decide) ?_ ?_
          · refine Sim.sub (L' := [(0, .ref o), (1, .ref x1), (2, .ref p4), (3, .int a15)]) [0, 1, 2, 3] rfl ?_
            exact Sim.ret (he _ _)
          · refine s_aload_n O 0 rfl rfl dX0_shadow_61 ?_
            refine x_get O (ci := 0) (T := TX0) (N := 20) in_X0 rfl 15 (by decide) q246 (fun _ h => h) dX0_shadow_62 (fun v0 => ?_)
            refine s_vR (fun r21 => ?_)
            refine s_iload O 4 rfl dX0_shadow_65 ?_
            refine s_dup2 O rfl (va_cat _) dX0_shadow_67 ?_
            refine s_dr (fun p22 hp23 => ?_)
            subst hp23
            refine x_iald O dX0_shadow_68 (fun u24 => ?_)
            refine s_iconst O (x := 1) (by decide) dX0_shadow_69 ?_
            refine s_iadd O dX0_shadow_70 ?_
            refine x_iast O dX0_shadow_71 (fun s25 => ?_)
            refine s_aload_n O 2 rfl rfl dX0_shadow_72 ?_
            refine s_aload_n O 0 rfl rfl dX0_shadow_73 ?_
            refine x_get O (ci := 0) (T := TX0) (N := 20) in_X0 rfl 15 (by decide) q246 (fun _ h => h) dX0_shadow_74 (fun v0 => ?_)
            refine s_vR (fun r26 => ?_)
            refine s_aload_n O 0 rfl rfl dX0_shadow_77 ?_
            refine x_get O (ci := 0) (T := TX0) (N := 20) in_X0 rfl 13 (by decide) q244 (fun _ h => h) dX0_shadow_78 (fun v0 => ?_)
            refine s_vI (fun u27 => ?_)
            refine s_iconst O (x := 1) (by decide) dX0_shadow_81 ?_
            refine s_iadd O dX0_shadow_82 ?_
            refine s_aload_n O 0 rfl rfl dX0_shadow_83 ?_
            refine x_get O (ci := 0) (T := TX0) (N := 20) in_X0 rfl 3 (by decide) q234 (fun _ h => h) dX0_shadow_84 (fun v0 => ?_)
            refine s_vR (fun r28 => ?_)
            refine s_dr (fun p29 hp30 => ?_)
            subst hp30
            refine x_getN O (ci := 1) (T := TX1) (N := 6) in_X1 rfl 0 (by decide) (zf_q206 hzz) (fun _ h => h) dX0_shadow_87 (fun v0 => ?_)
            refine s_vI (fun u31 => ?_)
            refine s_dr (fun p32 hp33 => ?_)
            subst hp33
            refine x_callS O (enc2 := eI) (av := [.ref p32, .int (u27 + 1), .int u31]) (rest := [.ref p4]) 3 (fun v0 t0 h0 => mt_X0_numberOf (xL X) (xG X) hfl hg p32 (u27 + 1) u31 _ t0 v0 h0) (lw_S q1351 q967 q131 q968) hd_X0_numberOf ⟨Nat.le_of_ble_eq_true rfl, Nat.le_of_ble_eq_true rfl⟩ rfl (Nat.le_of_ble_eq_true rfl) dX0_shadow_90 (fun v34 s35 => ?_)
            refine s_iconst O (x := 1) (by decide) dX0_shadow_93 ?_
            refine x_zast O dX0_shadow_94 (fun s36 => ?_)
            refine s_aload_n O 0 rfl rfl dX0_shadow_95 ?_
            refine x_get O (ci := 0) (T := TX0) (N := 20) in_X0 rfl 15 (by decide) q246 (fun _ h => h) dX0_shadow_96 (fun v0 => ?_)
            refine s_vR (fun r37 => ?_)
            refine s_iload O 4 rfl dX0_shadow_99 ?_
            refine s_dup2 O rfl (va_cat _) dX0_shadow_101 ?_
            refine s_dr (fun p38 hp39 => ?_)
            subst hp39
            refine x_iald O dX0_shadow_102 (fun u40 => ?_)
            refine s_iconst O (x := 1) (by decide) dX0_shadow_103 ?_
            refine s_isub O dX0_shadow_104 ?_
            refine x_iast O dX0_shadow_105 (fun s41 => ?_)
            refine s_iinc O (y := (a49 + 1)) (L' := [(4, .int (a49 + 1)), (0, .ref o), (1, .ref x1), (2, .ref p4), (3, .int a15)]) 4 rfl hm (by decide) rfl rfl dX0_shadow_106 ?_
            refine s_goto O (tgt := 49) dX0_shadow_109 (by decide) ?_
            refine Sim.sub (L' := [(0, .ref o), (1, .ref x1), (2, .ref p4), (3, .int a15), (4, .int (a49 + 1))]) [1, 2, 3, 4, 0] rfl ?_
            exact Sim.ret (hn _ _)
        · intro b49 s42
          show Sim X (xI) Cl 112 [(0, .ref o), (1, .ref x1), (2, .ref p4), (3, .int a15)] [] s42 _
          refine s_iinc O (y := (a15 + 1)) (L' := [(3, .int (a15 + 1)), (0, .ref o), (1, .ref x1), (2, .ref p4)]) 3 rfl hm (by decide) rfl rfl dX0_shadow_112 ?_
          refine s_goto O (tgt := 15) dX0_shadow_115 (by decide) ?_
          refine Sim.sub (L' := [(0, .ref o), (1, .ref x1), (2, .ref p4), (3, .int (a15 + 1))]) [1, 2, 3, 0] rfl ?_
          exact Sim.ret (hn _ _)
      · refine s_goto O (tgt := 112) dX0_shadow_27 (by decide) ?_
        refine s_iinc O (y := (a15 + 1)) (L' := [(3, .int (a15 + 1)), (0, .ref o), (1, .ref x1), (2, .ref p4)]) 3 rfl hm (by decide) rfl rfl dX0_shadow_112 ?_
        refine s_goto O (tgt := 15) dX0_shadow_115 (by decide) ?_
        refine Sim.sub (L' := [(0, .ref o), (1, .ref x1), (2, .ref p4), (3, .int (a15 + 1))]) [1, 2, 3, 0] rfl ?_
        exact Sim.ret (hn _ _)
  · intro b15 s43
    show Sim X (xI) (retC X eI xI) 118 [(2, .ref p4)] [] s43 _
    refine s_aload_n O 0 rfl rfl dX0_shadow_118 ?_
    refine x_callS O (enc2 := eI) (av := [.ref p4]) (rest := []) 1 (fun v0 t0 h0 => mt_X0_held (xL X) (xG X) hfl hg p4 _ t0 v0 h0) (lw_S q910 q911 q131 q912) hd_X0_held ⟨Nat.le_of_ble_eq_true rfl, Nat.le_of_ble_eq_true rfl⟩ rfl (Nat.le_of_ble_eq_true rfl) dX0_shadow_119 (fun v44 s45 => ?_)
    exact s_ireturn O hr rfl dX0_shadow_122
theorem mt_X0_shadow (l : Launch) (G : XG) (hfl : l.stackTraces = false) (hg : G.2.2.2.2 = zAll G.1.1 G.1.2.2.2 G.2.2.2.1) (o : Nat) (x1 : Nat) (s t : XS) (v : Int32) (h : x0_shadow o x1 s = some (v, t)) : xMet l yX0_shadow (ws_ yX0_shadow cX0_shadow 5 (some .int)) 3 67 G (xI s) [.ref o, .ref x1] (eI v) (xI t) :=
  xMet_of (E := xI) (enc := eI) (by decide +kernel) (Nat.le_of_ble_eq_true rfl) (fun X hl hG O hr hm => by subst hl; subst hG; exact wk_X0_shadow O hfl hg hr hm o x1 s) h
theorem hd_X0_shape : yX0_shape.cls ≠ "java/lang/invoke/MethodHandle" ∧ yX0_shape.cls ≠ "java/lang/invoke/VarHandle" ∧ (parseMethodDescriptor yX0_shape.desc).map (fun d => d.parameters.length) = some 1 := by decide +kernel
theorem hv_X0_shape : yX0_shape.cls = RX0 ∧ yX0_shape.cls ≠ "java/lang/invoke/MethodHandle" ∧ yX0_shape.cls ≠ "java/lang/invoke/VarHandle" ∧ (parseMethodDescriptor yX0_shape.desc).map (fun d => d.parameters.length) = some 1 := ⟨rfl, hd_X0_shape⟩
theorem hu_X0_shape : yX0_shape.name ≠ "<init>" ∧ (parseMethodDescriptor yX0_shape.desc).map (fun d => d.parameters.length) = some 1 := ⟨by decide +kernel, hd_X0_shape.2.2⟩
set_option maxHeartbeats 4000000 in
set_option maxRecDepth 100000 in
theorem wk_X0_shape {X : XC} (O : XOk X cX0_shape RX0 4 91) (hfl : (xL X).stackTraces = false) (hg : (xG X).2.2.2.2 = zAll (xG X).1.1 (xG X).1.2.2.2 (xG X).2.2.2.1) (hr : (xMeth X).sig.returnType = (some .int)) (hm : (xC X).maxLocals = 2) (o : Nat) (x1 : Int32) (s : XS) : Sim X xI (retC X eI xI) 0 [(0, .ref o), (1, .int x1)] [] s (x0_shape o x1 s) := by
  have hzz := O.hst
  rw [hg] at hzz
  unfold x0_shape
  refine s_aload_n O 0 rfl rfl dX0_shape_0 ?_
  refine x_get O (ci := 0) (T := TX0) (N := 20) in_X0 rfl 12 (by decide) q243 (fun _ h => h) dX0_shape_1 (fun v0 => ?_)
  refine s_vR (fun r1 => ?_)
  refine s_ifnonnull O (tgt := 9) dX0_shape_4 (by decide) (fun p2 hr0 => ?_) (fun hr0 => ?_)
  · subst hr0
    refine s_iload_n O 1 rfl rfl dX0_shape_9 ?_
    refine Sim.ite (fun h10_0 => ?_) (fun h10_0 => ?_)
    · refine s_tableIn O (off := 30) (tgt := 40) dX0_shape_10 (by rw [h10_0]; decide) (by rw [h10_0]; decide) (by rw [h10_0]; rfl) (by decide) ?_
      refine s_aload_n O 0 rfl rfl dX0_shape_40 ?_
      refine x_callV O (enc2 := eI) (ci := 0) (av := []) (rest := []) 0 (fun v0 t0 h0 => mt_X0_isPressed (xL X) (xG X) hfl hg o _ t0 v0 h0) (lw_V q1339 q1341 qs45 q131 q1342) hv_X0_isPressed ⟨Nat.le_of_ble_eq_true rfl, Nat.le_of_ble_eq_true rfl⟩ rfl rfl (Nat.le_of_ble_eq_true rfl) dX0_shape_41 (fun v3 s4 => ?_)
      refine s_callP O (enc2 := eI) (av := [.int v3]) (rest := []) 1 (fun v0 h0 => mt_X0_flag (xL X) (xG X) _ v3 v0 h0) (lw_S q913 q914 q131 q915) hd_X0_flag ⟨Nat.le_of_ble_eq_true rfl, Nat.le_of_ble_eq_true rfl⟩ rfl (Nat.le_of_ble_eq_true rfl) dX0_shape_44 (fun v5 => ?_)
      exact s_ireturn O hr rfl dX0_shape_47
    · refine Sim.ite (fun h10_1 => ?_) (fun h10_1 => ?_)
      · refine s_tableIn O (off := 38) (tgt := 48) dX0_shape_10 (by rw [h10_1]; decide) (by rw [h10_1]; decide) (by rw [h10_1]; rfl) (by decide) ?_
        refine s_aload_n O 0 rfl rfl dX0_shape_48 ?_
        refine x_get O (ci := 0) (T := TX0) (N := 20) in_X0 rfl 12 (by decide) q243 (fun _ h => h) dX0_shape_49 (fun v0 => ?_)
        refine s_vR (fun r7 => ?_)
        refine s_aload_n O 0 rfl rfl dX0_shape_52 ?_
        refine s_aload_n O 0 rfl rfl dX0_shape_53 ?_
        refine x_get O (ci := 0) (T := TX0) (N := 20) in_X0 rfl 12 (by decide) q243 (fun _ h => h) dX0_shape_54 (fun v0 => ?_)
        refine s_vR (fun r8 => ?_)
        refine s_dr (fun p9 hp10 => ?_)
        subst hp10
        refine x_callS O (enc2 := eI) (av := [.ref p9]) (rest := [.ref o, va_rf r7]) 1 (fun v0 t0 h0 => mt_X0_held (xL X) (xG X) hfl hg p9 _ t0 v0 h0) (lw_S q910 q911 q131 q912) hd_X0_held ⟨Nat.le_of_ble_eq_true rfl, Nat.le_of_ble_eq_true rfl⟩ rfl (by generalize r7 = zq0; cases zq0 <;> exact Nat.le_of_ble_eq_true rfl) dX0_shape_57 (fun v11 s12 => ?_)
        refine x_callV O (enc2 := eR) (ci := 0) (av := [.int v11]) (rest := [va_rf r7]) 1 (fun v0 t0 h0 => mt_X0_firsts (xL X) (xG X) hfl hg o v11 _ t0 v0 h0) (lw_V q1343 q1345 qs46 q131 q1346) hv_X0_firsts ⟨Nat.le_of_ble_eq_true rfl, Nat.le_of_ble_eq_true rfl⟩ rfl rfl (by generalize r7 = zq0; cases zq0 <;> exact Nat.le_of_ble_eq_true rfl) dX0_shape_60 (fun r13 s14 => ?_)
        refine s_dr (fun p15 hp16 => ?_)
        subst hp16
        refine s_dr (fun p17 hp18 => ?_)
        subst hp18
        refine x_callS O (enc2 := eI) (av := [.ref p15, .ref p17]) (rest := []) 2 (fun v0 t0 h0 => mt_X0_come (xL X) (xG X) hfl hg p15 p17 _ t0 v0 h0) (lw_S q1322 q1323 q131 q1324) hd_X0_come ⟨Nat.le_of_ble_eq_true rfl, Nat.le_of_ble_eq_true rfl⟩ rfl (Nat.le_of_ble_eq_true rfl) dX0_shape_63 (fun v19 s20 => ?_)
        refine s_if_ne O (tgt := 73) dX0_shape_66 (by decide) ?_ ?_
        · refine s_iconst O (x := 0) (by decide) dX0_shape_73 ?_
          refine s_callP O (enc2 := eI) (av := [.int 0]) (rest := []) 1 (fun v0 h0 => mt_X0_flag (xL X) (xG X) _ 0 v0 h0) (lw_S q913 q914 q131 q915) hd_X0_flag ⟨Nat.le_of_ble_eq_true rfl, Nat.le_of_ble_eq_true rfl⟩ rfl (Nat.le_of_ble_eq_true rfl) dX0_shape_74 (fun v21 => ?_)
          exact s_ireturn O hr rfl dX0_shape_77
        · refine s_iconst O (x := 1) (by decide) dX0_shape_69 ?_
          refine s_goto O (tgt := 74) dX0_shape_70 (by decide) ?_
          refine s_callP O (enc2 := eI) (av := [.int 1]) (rest := []) 1 (fun v0 h0 => mt_X0_flag (xL X) (xG X) _ 1 v0 h0) (lw_S q913 q914 q131 q915) hd_X0_flag ⟨Nat.le_of_ble_eq_true rfl, Nat.le_of_ble_eq_true rfl⟩ rfl (Nat.le_of_ble_eq_true rfl) dX0_shape_74 (fun v23 => ?_)
          exact s_ireturn O hr rfl dX0_shape_77
      · refine Sim.ite (fun h10_2 => ?_) (fun h10_2 => ?_)
        · refine s_tableIn O (off := 68) (tgt := 78) dX0_shape_10 (by rw [h10_2]; decide) (by rw [h10_2]; decide) (by rw [h10_2]; rfl) (by decide) ?_
          refine s_aload_n O 0 rfl rfl dX0_shape_78 ?_
          refine s_aload_n O 0 rfl rfl dX0_shape_79 ?_
          refine x_get O (ci := 0) (T := TX0) (N := 20) in_X0 rfl 12 (by decide) q243 (fun _ h => h) dX0_shape_80 (fun v0 => ?_)
          refine s_vR (fun r25 => ?_)
          refine s_dr (fun p26 hp27 => ?_)
          subst hp27
          refine x_callV O (enc2 := eI) (ci := 0) (av := [.ref p26]) (rest := []) 1 (fun v0 t0 h0 => mt_X0_shadow (xL X) (xG X) hfl hg o p26 _ t0 v0 h0) (lw_V q1347 q1349 qs47 q131 q1350) hv_X0_shadow ⟨Nat.le_of_ble_eq_true rfl, Nat.le_of_ble_eq_true rfl⟩ rfl rfl (Nat.le_of_ble_eq_true rfl) dX0_shape_83 (fun v28 s29 => ?_)
          exact s_ireturn O hr rfl dX0_shape_86
        · refine Sim.ite (fun h10_3 => ?_) (fun h10_3 => ?_)
          · refine s_tableIn O (off := 77) (tgt := 87) dX0_shape_10 (by rw [h10_3]; decide) (by rw [h10_3]; decide) (by rw [h10_3]; rfl) (by decide) ?_
            refine s_aload_n O 0 rfl rfl dX0_shape_87 ?_
            refine s_aload_n O 0 rfl rfl dX0_shape_88 ?_
            refine s_aload_n O 0 rfl rfl dX0_shape_89 ?_
            refine x_get O (ci := 0) (T := TX0) (N := 20) in_X0 rfl 12 (by decide) q243 (fun _ h => h) dX0_shape_90 (fun v0 => ?_)
            refine s_vR (fun r30 => ?_)
            refine s_dr (fun p31 hp32 => ?_)
            subst hp32
            refine x_callS O (enc2 := eI) (av := [.ref p31]) (rest := [.ref o, .ref o]) 1 (fun v0 t0 h0 => mt_X0_held (xL X) (xG X) hfl hg p31 _ t0 v0 h0) (lw_S q910 q911 q131 q912) hd_X0_held ⟨Nat.le_of_ble_eq_true rfl, Nat.le_of_ble_eq_true rfl⟩ rfl (Nat.le_of_ble_eq_true rfl) dX0_shape_93 (fun v33 s34 => ?_)
            refine x_callV O (enc2 := eR) (ci := 0) (av := [.int v33]) (rest := [.ref o]) 1 (fun v0 t0 h0 => mt_X0_firsts (xL X) (xG X) hfl hg o v33 _ t0 v0 h0) (lw_V q1343 q1345 qs46 q131 q1346) hv_X0_firsts ⟨Nat.le_of_ble_eq_true rfl, Nat.le_of_ble_eq_true rfl⟩ rfl rfl (Nat.le_of_ble_eq_true rfl) dX0_shape_96 (fun r35 s36 => ?_)
            refine s_dr (fun p37 hp38 => ?_)
            subst hp38
            refine x_callV O (enc2 := eI) (ci := 0) (av := [.ref p37]) (rest := []) 1 (fun v0 t0 h0 => mt_X0_shadow (xL X) (xG X) hfl hg o p37 _ t0 v0 h0) (lw_V q1347 q1349 qs47 q131 q1350) hv_X0_shadow ⟨Nat.le_of_ble_eq_true rfl, Nat.le_of_ble_eq_true rfl⟩ rfl rfl (Nat.le_of_ble_eq_true rfl) dX0_shape_99 (fun v39 s40 => ?_)
            exact s_ireturn O hr rfl dX0_shape_102
          · refine s_tableOut O (tgt := 103) dX0_shape_10 (tsw_out 3 (by decide) (fun k hk => by match k, hk with | 0, _ => exact h10_0 | 1, _ => exact h10_1 | 2, _ => exact h10_2 | 3, _ => exact h10_3 | k + 4, hk => exact absurd hk (by omega))) (by decide) ?_
            refine s_iconst O (x := (-1)) (by decide) dX0_shape_103 ?_
            exact s_ireturn O hr rfl dX0_shape_104
  · subst hr0
    refine s_iconst O (x := (-1)) (by decide) dX0_shape_7 ?_
    exact s_ireturn O hr rfl dX0_shape_8
theorem mt_X0_shape (l : Launch) (G : XG) (hfl : l.stackTraces = false) (hg : G.2.2.2.2 = zAll G.1.1 G.1.2.2.2 G.2.2.2.1) (o : Nat) (x1 : Int32) (s t : XS) (v : Int32) (h : x0_shape o x1 s = some (v, t)) : xMet l yX0_shape (ws_ yX0_shape cX0_shape 2 (some .int)) 4 91 G (xI s) [.ref o, .int x1] (eI v) (xI t) :=
  xMet_of (E := xI) (enc := eI) (by decide +kernel) (Nat.le_of_ble_eq_true rfl) (fun X hl hG O hr hm => by subst hl; subst hG; exact wk_X0_shape O hfl hg hr hm o x1 s) h
theorem hd_X0_canAct : yX0_canAct.cls ≠ "java/lang/invoke/MethodHandle" ∧ yX0_canAct.cls ≠ "java/lang/invoke/VarHandle" ∧ (parseMethodDescriptor yX0_canAct.desc).map (fun d => d.parameters.length) = some 2 := by decide +kernel
theorem hv_X0_canAct : yX0_canAct.cls = RX0 ∧ yX0_canAct.cls ≠ "java/lang/invoke/MethodHandle" ∧ yX0_canAct.cls ≠ "java/lang/invoke/VarHandle" ∧ (parseMethodDescriptor yX0_canAct.desc).map (fun d => d.parameters.length) = some 2 := ⟨rfl, hd_X0_canAct⟩
theorem hu_X0_canAct : yX0_canAct.name ≠ "<init>" ∧ (parseMethodDescriptor yX0_canAct.desc).map (fun d => d.parameters.length) = some 2 := ⟨by decide +kernel, hd_X0_canAct.2.2⟩
set_option maxHeartbeats 4000000 in
set_option maxRecDepth 100000 in
theorem wk_X0_canAct {X : XC} (O : XOk X cX0_canAct RX0 4 84) (hfl : (xL X).stackTraces = false) (hg : (xG X).2.2.2.2 = zAll (xG X).1.1 (xG X).1.2.2.2 (xG X).2.2.2.1) (hr : (xMeth X).sig.returnType = (some .boolean)) (hm : (xC X).maxLocals = 3) (o : Nat) (x1 : Int32) (x2 : Int32) (s : XS) : Sim X xI (retC X eI xI) 0 [(0, .ref o), (1, .int x1), (2, .int x2)] [] s (x0_canAct o x1 x2 s) := by
  have hzz := O.hst
  rw [hg] at hzz
  unfold x0_canAct
  refine s_iload_n O 1 rfl rfl dX0_canAct_0 ?_
  refine s_i2l O dX0_canAct_1 ?_
  refine s_lconst O (x := 1) (by decide) dX0_canAct_2 ?_
  refine s_ldc2 O (x := 8) q1300 dX0_canAct_3 ?_
  refine s_callP O (enc2 := eI) (av := [.long x1.toInt64, .long 1, .long 8]) (rest := []) 3 (fun v0 h0 => mt_X0_isIn (xL X) (xG X) _ x1.toInt64 1 8 v0 h0) (lw_S q317 q318 q131 q319) hd_X0_isIn ⟨Nat.le_of_ble_eq_true rfl, Nat.le_of_ble_eq_true rfl⟩ rfl (Nat.le_of_ble_eq_true rfl) dX0_canAct_6 (fun v1 => ?_)
  refine s_if_eq O (tgt := 25) dX0_canAct_9 (by decide) ?_ ?_
  · refine s_iconst O (x := 0) (by decide) dX0_canAct_25 ?_
    exact s_zreturnK O hr rfl rfl dX0_canAct_26
  · refine s_aload_n O 0 rfl rfl dX0_canAct_12 ?_
    refine s_iload_n O 1 rfl rfl dX0_canAct_13 ?_
    refine s_iload_n O 2 rfl rfl dX0_canAct_14 ?_
    refine x_callV O (enc2 := eI) (ci := 0) (av := [.int x1, .int x2]) (rest := []) 2 (fun v0 t0 h0 => mt_X0_isMono (xL X) (xG X) hfl hg o x1 x2 _ t0 v0 h0) (lw_V q937 q939 qs24 q131 q940) hv_X0_isMono ⟨Nat.le_of_ble_eq_true rfl, Nat.le_of_ble_eq_true rfl⟩ rfl rfl (Nat.le_of_ble_eq_true rfl) dX0_canAct_15 (fun v3 s4 => ?_)
    refine s_if_eq O (tgt := 25) dX0_canAct_18 (by decide) ?_ ?_
    · refine s_iconst O (x := 0) (by decide) dX0_canAct_25 ?_
      exact s_zreturnK O hr rfl rfl dX0_canAct_26
    · refine s_iconst O (x := 1) (by decide) dX0_canAct_21 ?_
      refine s_goto O (tgt := 26) dX0_canAct_22 (by decide) ?_
      exact s_zreturnK O hr rfl rfl dX0_canAct_26
theorem mt_X0_canAct (l : Launch) (G : XG) (hfl : l.stackTraces = false) (hg : G.2.2.2.2 = zAll G.1.1 G.1.2.2.2 G.2.2.2.1) (o : Nat) (x1 : Int32) (x2 : Int32) (s t : XS) (v : Int32) (h : x0_canAct o x1 x2 s = some (v, t)) : xMet l yX0_canAct (ws_ yX0_canAct cX0_canAct 3 (some .boolean)) 4 84 G (xI s) [.ref o, .int x1, .int x2] (eI v) (xI t) :=
  xMet_of (E := xI) (enc := eI) (by decide +kernel) (Nat.le_of_ble_eq_true rfl) (fun X hl hG O hr hm => by subst hl; subst hG; exact wk_X0_canAct O hfl hg hr hm o x1 x2 s) h
theorem hd_X0_like : yX0_like.cls ≠ "java/lang/invoke/MethodHandle" ∧ yX0_like.cls ≠ "java/lang/invoke/VarHandle" ∧ (parseMethodDescriptor yX0_like.desc).map (fun d => d.parameters.length) = some 0 := by decide +kernel
theorem hv_X0_like : yX0_like.cls = RX0 ∧ yX0_like.cls ≠ "java/lang/invoke/MethodHandle" ∧ yX0_like.cls ≠ "java/lang/invoke/VarHandle" ∧ (parseMethodDescriptor yX0_like.desc).map (fun d => d.parameters.length) = some 0 := ⟨rfl, hd_X0_like⟩
theorem hu_X0_like : yX0_like.name ≠ "<init>" ∧ (parseMethodDescriptor yX0_like.desc).map (fun d => d.parameters.length) = some 0 := ⟨by decide +kernel, hd_X0_like.2.2⟩
set_option maxHeartbeats 4000000 in
set_option maxRecDepth 100000 in
theorem wk_X0_like {X : XC} (O : XOk X cX0_like RX0 5 102) (hfl : (xL X).stackTraces = false) (hg : (xG X).2.2.2.2 = zAll (xG X).1.1 (xG X).1.2.2.2 (xG X).2.2.2.1) (hr : (xMeth X).sig.returnType = (some (.object "QuotientRows$State"))) (hm : (xC X).maxLocals = 1) (o : Nat) (s : XS) : Sim X xI (retC X eR xI) 0 [(0, .ref o)] [] s (x0_like o s) := by
  have hzz := O.hst
  rw [hg] at hzz
  unfold x0_like
  refine x_new O (ci := 1) (T := TX1) (N := 6) (fs := dfX1) in_X1 tyX1 tyX1_ok rfl 6 q165 q166 q132 rfl dfX1_ok dX0_like_0 (fun p1 s2 => ?_)
  refine s_dup O rfl dX0_like_3 ?_
  refine s_aload_n O 0 rfl rfl dX0_like_4 ?_
  refine x_get O (ci := 0) (T := TX0) (N := 20) in_X0 rfl 3 (by decide) q234 (fun _ h => h) dX0_like_5 (fun v0 => ?_)
  refine s_vR (fun r3 => ?_)
  refine s_dr (fun p4 hp5 => ?_)
  subst hp5
  refine x_getN O (ci := 1) (T := TX1) (N := 6) in_X1 rfl 0 (by decide) (zf_q206 hzz) (fun _ h => h) dX0_like_8 (fun v0 => ?_)
  refine s_vI (fun u6 => ?_)
  refine s_aload_n O 0 rfl rfl dX0_like_11 ?_
  refine x_get O (ci := 0) (T := TX0) (N := 20) in_X0 rfl 3 (by decide) q234 (fun _ h => h) dX0_like_12 (fun v0 => ?_)
  refine s_vR (fun r7 => ?_)
  refine s_dr (fun p8 hp9 => ?_)
  subst hp9
  refine x_getN O (ci := 1) (T := TX1) (N := 6) in_X1 rfl 2 (by decide) (zf_q210 hzz) (fun _ h => h) dX0_like_15 (fun v0 => ?_)
  refine s_vR (fun r10 => ?_)
  refine s_dr (fun p11 hp12 => ?_)
  subst hp12
  refine x_callI O (enc2 := eU) (av := [.int u6, .ref p11]) (rest := [.ref p1]) 2 (fun v0 t0 h0 => mt_X1_init_2 (xL X) (xG X) hfl hg p1 u6 p11 _ t0 v0 h0) q172 q132 q1290 q171 rfl hd_X1_init_2 ⟨Nat.le_of_ble_eq_true rfl, Nat.le_of_ble_eq_true rfl⟩ rfl (Nat.le_of_ble_eq_true rfl) dX0_like_18 (fun v13 s14 => ?_)
  exact s_areturnQ O (r := (some p1)) hr (Or.inl ⟨_, rfl⟩) rfl dX0_like_21
theorem mt_X0_like (l : Launch) (G : XG) (hfl : l.stackTraces = false) (hg : G.2.2.2.2 = zAll G.1.1 G.1.2.2.2 G.2.2.2.1) (o : Nat) (s t : XS) (v : Option Nat) (h : x0_like o s = some (v, t)) : xMet l yX0_like (ws_ yX0_like cX0_like 1 (some (.object "QuotientRows$State"))) 5 102 G (xI s) [.ref o] (eR v) (xI t) :=
  xMet_of (E := xI) (enc := eR) (by decide +kernel) (Nat.le_of_ble_eq_true rfl) (fun X hl hG O hr hm => by subst hl; subst hG; exact wk_X0_like O hfl hg hr hm o s) h
theorem hd_X0_join : yX0_join.cls ≠ "java/lang/invoke/MethodHandle" ∧ yX0_join.cls ≠ "java/lang/invoke/VarHandle" ∧ (parseMethodDescriptor yX0_join.desc).map (fun d => d.parameters.length) = some 2 := by decide +kernel
theorem hv_X0_join : yX0_join.cls = RX0 ∧ yX0_join.cls ≠ "java/lang/invoke/MethodHandle" ∧ yX0_join.cls ≠ "java/lang/invoke/VarHandle" ∧ (parseMethodDescriptor yX0_join.desc).map (fun d => d.parameters.length) = some 2 := ⟨rfl, hd_X0_join⟩
theorem hu_X0_join : yX0_join.name ≠ "<init>" ∧ (parseMethodDescriptor yX0_join.desc).map (fun d => d.parameters.length) = some 2 := ⟨by decide +kernel, hd_X0_join.2.2⟩
set_option maxHeartbeats 4000000 in
set_option maxRecDepth 100000 in
theorem wk_X0_join {X : XC} (O : XOk X cX0_join RX0 8 216) (hfl : (xL X).stackTraces = false) (hg : (xG X).2.2.2.2 = zAll (xG X).1.1 (xG X).1.2.2.2 (xG X).2.2.2.1) (hr : (xMeth X).sig.returnType = (some .int)) (hm : (xC X).maxLocals = 4) (o : Nat) (x1 : Int32) (x2 : Int32) (s : XS) : Sim X xI (retC X eI xI) 0 [(0, .ref o), (1, .int x1), (2, .int x2)] [] s (x0_join o x1 x2 s) := by
  have hzz := O.hst
  rw [hg] at hzz
  unfold x0_join
  refine s_aload_n O 0 rfl rfl dX0_join_0 ?_
  refine s_iload_n O 1 rfl rfl dX0_join_1 ?_
  refine s_iload_n O 2 rfl rfl dX0_join_2 ?_
  refine x_callV O (enc2 := eI) (ci := 0) (av := [.int x1, .int x2]) (rest := []) 2 (fun v0 t0 h0 => mt_X0_canAct (xL X) (xG X) hfl hg o x1 x2 _ t0 v0 h0) (lw_V q1356 q1358 qs48 q131 q1359) hv_X0_canAct ⟨Nat.le_of_ble_eq_true rfl, Nat.le_of_ble_eq_true rfl⟩ rfl rfl (Nat.le_of_ble_eq_true rfl) dX0_join_3 (fun v1 s2 => ?_)
  refine s_if_eq O (tgt := 28) dX0_join_6 (by decide) ?_ ?_
  · refine s_aload_n O 0 rfl rfl dX0_join_28 ?_
    refine s_iconst O (x := 2) (by decide) dX0_join_29 ?_
    refine x_callV O (enc2 := eI) (ci := 0) (av := [.int 2]) (rest := []) 1 (fun v0 t0 h0 => mt_X0_refused (xL X) (xG X) hfl hg o 2 _ t0 v0 h0) (lw_V q296 q298 qs0 q131 q299) hv_X0_refused ⟨Nat.le_of_ble_eq_true rfl, Nat.le_of_ble_eq_true rfl⟩ rfl rfl (Nat.le_of_ble_eq_true rfl) dX0_join_30 (fun v3 s4 => ?_)
    exact s_ireturn O hr rfl dX0_join_33
  · refine s_aload_n O 0 rfl rfl dX0_join_9 ?_
    refine x_get O (ci := 0) (T := TX0) (N := 20) in_X0 rfl 3 (by decide) q234 (fun _ h => h) dX0_join_10 (fun v0 => ?_)
    refine s_vR (fun r5 => ?_)
    refine s_aload_n O 0 rfl rfl dX0_join_13 ?_
    refine s_iload_n O 1 rfl rfl dX0_join_14 ?_
    refine s_iload_n O 2 rfl rfl dX0_join_15 ?_
    refine x_callV O (enc2 := eR) (ci := 0) (av := [.int x1, .int x2]) (rest := [va_rf r5]) 2 (fun v0 t0 h0 => mt_X0_mono (xL X) (xG X) hfl hg o x1 x2 _ t0 v0 h0) (lw_V q941 q943 qs25 q131 q944) hv_X0_mono ⟨Nat.le_of_ble_eq_true rfl, Nat.le_of_ble_eq_true rfl⟩ rfl rfl (by generalize r5 = zq0; cases zq0 <;> exact Nat.le_of_ble_eq_true rfl) dX0_join_16 (fun r6 s7 => ?_)
    refine s_dr (fun p8 hp9 => ?_)
    subst hp9
    refine x_getN O (ci := 5) (T := TX5) (N := 2) in_X5 rfl 0 (by decide) (zf_q708 hzz) (fun _ h => h) dX0_join_19 (fun v0 => ?_)
    refine s_vR (fun r10 => ?_)
    refine s_dr (fun p11 hp12 => ?_)
    subst hp12
    refine s_dr (fun p13 hp14 => ?_)
    subst hp14
    refine x_callV O (enc2 := eI) (ci := 1) (av := [.ref p11]) (rest := []) 1 (fun v0 t0 h0 => mt_X1_covers (xL X) (xG X) hfl hg p13 p11 _ t0 v0 h0) (lw_V q979 q835 q836 q132 q837) hv_X1_covers ⟨Nat.le_of_ble_eq_true rfl, Nat.le_of_ble_eq_true rfl⟩ rfl rfl (Nat.le_of_ble_eq_true rfl) dX0_join_22 (fun v15 s16 => ?_)
    refine s_if_eq O (tgt := 34) dX0_join_25 (by decide) ?_ ?_
    · refine s_aload_n O 0 rfl rfl dX0_join_34 ?_
      refine x_callV O (enc2 := eR) (ci := 0) (av := []) (rest := []) 0 (fun v0 t0 h0 => mt_X0_like (xL X) (xG X) hfl hg o _ t0 v0 h0) (lw_V q1360 q1362 qs49 q131 q1363) hv_X0_like ⟨Nat.le_of_ble_eq_true rfl, Nat.le_of_ble_eq_true rfl⟩ rfl rfl (Nat.le_of_ble_eq_true rfl) dX0_join_35 (fun r17 s18 => ?_)
      refine s_aload_n O 0 rfl rfl dX0_join_38 ?_
      refine x_get O (ci := 0) (T := TX0) (N := 20) in_X0 rfl 3 (by decide) q234 (fun _ h => h) dX0_join_39 (fun v0 => ?_)
      refine s_vR (fun r19 => ?_)
      refine s_dr (fun p20 hp21 => ?_)
      subst hp21
      refine x_getN O (ci := 1) (T := TX1) (N := 6) in_X1 rfl 1 (by decide) (zf_q208 hzz) (fun _ h => h) dX0_join_42 (fun v0 => ?_)
      refine s_vR (fun r22 => ?_)
      refine s_dr (fun p23 hp24 => ?_)
      subst hp24
      refine s_dr (fun p25 hp26 => ?_)
      subst hp26
      refine x_callV O (enc2 := eR) (ci := 1) (av := [.ref p23]) (rest := []) 1 (fun v0 t0 h0 => mt_X1_withAll (xL X) (xG X) hfl hg p25 p23 _ t0 v0 h0) (lw_V q1291 q775 q776 q132 q777) hv_X1_withAll ⟨Nat.le_of_ble_eq_true rfl, Nat.le_of_ble_eq_true rfl⟩ rfl rfl (Nat.le_of_ble_eq_true rfl) dX0_join_45 (fun r27 s28 => ?_)
      refine s_aload_n O 0 rfl rfl dX0_join_48 ?_
      refine s_iload_n O 1 rfl rfl dX0_join_49 ?_
      refine s_iload_n O 2 rfl rfl dX0_join_50 ?_
      refine x_callV O (enc2 := eR) (ci := 0) (av := [.int x1, .int x2]) (rest := [va_rf r27]) 2 (fun v0 t0 h0 => mt_X0_mono (xL X) (xG X) hfl hg o x1 x2 _ t0 v0 h0) (lw_V q941 q943 qs25 q131 q944) hv_X0_mono ⟨Nat.le_of_ble_eq_true rfl, Nat.le_of_ble_eq_true rfl⟩ rfl rfl (by generalize r27 = zq0; cases zq0 <;> exact Nat.le_of_ble_eq_true rfl) dX0_join_51 (fun r29 s30 => ?_)
      refine s_dr (fun p31 hp32 => ?_)
      subst hp32
      refine s_dr (fun p33 hp34 => ?_)
      subst hp34
      refine x_callV O (enc2 := eR) (ci := 1) (av := [.ref p31]) (rest := []) 1 (fun v0 t0 h0 => mt_X1_with (xL X) (xG X) hfl hg p33 p31 _ t0 v0 h0) (lw_V q1364 q831 q832 q132 q833) hv_X1_with ⟨Nat.le_of_ble_eq_true rfl, Nat.le_of_ble_eq_true rfl⟩ rfl rfl (Nat.le_of_ble_eq_true rfl) dX0_join_54 (fun r35 s36 => ?_)
      refine s_astore_nQ O (r := r35) (L' := [(0, .ref o), (1, .int x1), (2, .int x2)]) rfl hm (by decide) (fun _ => rfl) dX0_join_57 ?_
      refine s_aload_nQ O 0 rfl rfl dX0_join_58 ?_
      refine s_dr (fun p37 hp38 => ?_)
      subst hp38
      refine x_getN O (ci := 1) (T := TX1) (N := 6) in_X1 rfl 1 (by decide) (zf_q208 hzz) (fun _ h => h) dX0_join_59 (fun v0 => ?_)
      refine s_vR (fun r39 => ?_)
      refine s_dr (fun p40 hp41 => ?_)
      subst hp41
      refine x_callF O (enc2 := eI) (ci := 7) (av := []) (rest := []) 0 (fun v0 t0 h0 => mt_J2_size (xL X) (xG X) hfl hg p40 _ t0 v0 h0) (lw_F q897 q695 q697 q135 q699) (zw_0 hzz) hf_J2_size ⟨Nat.le_of_ble_eq_true rfl, Nat.le_of_ble_eq_true rfl⟩ rfl rfl (Nat.le_of_ble_eq_true rfl) dX0_join_62 (fun v42 s43 => ?_)
      refine s_bipush O (x := 40) (by decide) dX0_join_67 ?_
      refine s_icmp_le O (tgt := 78) dX0_join_69 (by decide) ?_ ?_
      · refine s_aload_n O 1 rfl rfl dX0_join_78 ?_
        refine s_aload_n O 0 rfl rfl dX0_join_79 ?_
        refine x_callV O (enc2 := eU) (ci := 0) (av := [.ref p37]) (rest := []) 1 (fun v0 t0 h0 => mt_X0_becomes (xL X) (xG X) hfl hg o p37 _ t0 v0 h0) (lw_V q892 q894 qs22 q131 q895) hv_X0_becomes ⟨Nat.le_of_ble_eq_true rfl, Nat.le_of_ble_eq_true rfl⟩ rfl rfl (Nat.le_of_ble_eq_true rfl) dX0_join_80 (fun v44 s45 => ?_)
        refine s_aload_n O 0 rfl rfl dX0_join_83 ?_
        refine x_getN O (ci := 1) (T := TX1) (N := 6) in_X1 rfl 1 (by decide) (zf_q208 hzz) (fun _ h => h) dX0_join_84 (fun v0 => ?_)
        refine s_vR (fun r46 => ?_)
        refine s_dr (fun p47 hp48 => ?_)
        subst hp48
        refine x_callF O (enc2 := eI) (ci := 7) (av := []) (rest := []) 0 (fun v0 t0 h0 => mt_J2_size (xL X) (xG X) hfl hg p47 _ t0 v0 h0) (lw_F q897 q695 q697 q135 q699) (zw_0 hzz) hf_J2_size ⟨Nat.le_of_ble_eq_true rfl, Nat.le_of_ble_eq_true rfl⟩ rfl rfl (Nat.le_of_ble_eq_true rfl) dX0_join_87 (fun v49 s50 => ?_)
        exact s_ireturn O hr rfl dX0_join_92
      · refine s_aload_n O 1 rfl rfl dX0_join_72 ?_
        refine s_iconst O (x := 2) (by decide) dX0_join_73 ?_
        refine x_callV O (enc2 := eI) (ci := 0) (av := [.int 2]) (rest := []) 1 (fun v0 t0 h0 => mt_X0_refused (xL X) (xG X) hfl hg o 2 _ t0 v0 h0) (lw_V q296 q298 qs0 q131 q299) hv_X0_refused ⟨Nat.le_of_ble_eq_true rfl, Nat.le_of_ble_eq_true rfl⟩ rfl rfl (Nat.le_of_ble_eq_true rfl) dX0_join_74 (fun v51 s52 => ?_)
        exact s_ireturn O hr rfl dX0_join_77
    · refine s_aload_n O 0 rfl rfl dX0_join_28 ?_
      refine s_iconst O (x := 2) (by decide) dX0_join_29 ?_
      refine x_callV O (enc2 := eI) (ci := 0) (av := [.int 2]) (rest := []) 1 (fun v0 t0 h0 => mt_X0_refused (xL X) (xG X) hfl hg o 2 _ t0 v0 h0) (lw_V q296 q298 qs0 q131 q299) hv_X0_refused ⟨Nat.le_of_ble_eq_true rfl, Nat.le_of_ble_eq_true rfl⟩ rfl rfl (Nat.le_of_ble_eq_true rfl) dX0_join_30 (fun v53 s54 => ?_)
      exact s_ireturn O hr rfl dX0_join_33
theorem mt_X0_join (l : Launch) (G : XG) (hfl : l.stackTraces = false) (hg : G.2.2.2.2 = zAll G.1.1 G.1.2.2.2 G.2.2.2.1) (o : Nat) (x1 : Int32) (x2 : Int32) (s t : XS) (v : Int32) (h : x0_join o x1 x2 s = some (v, t)) : xMet l yX0_join (ws_ yX0_join cX0_join 4 (some .int)) 8 216 G (xI s) [.ref o, .int x1, .int x2] (eI v) (xI t) :=
  xMet_of (E := xI) (enc := eI) (by decide +kernel) (Nat.le_of_ble_eq_true rfl) (fun X hl hG O hr hm => by subst hl; subst hG; exact wk_X0_join O hfl hg hr hm o x1 x2 s) h
theorem hd_X5_over : yX5_over.cls ≠ "java/lang/invoke/MethodHandle" ∧ yX5_over.cls ≠ "java/lang/invoke/VarHandle" ∧ (parseMethodDescriptor yX5_over.desc).map (fun d => d.parameters.length) = some 1 := by decide +kernel
theorem hv_X5_over : yX5_over.cls = RX5 ∧ yX5_over.cls ≠ "java/lang/invoke/MethodHandle" ∧ yX5_over.cls ≠ "java/lang/invoke/VarHandle" ∧ (parseMethodDescriptor yX5_over.desc).map (fun d => d.parameters.length) = some 1 := ⟨rfl, hd_X5_over⟩
theorem hu_X5_over : yX5_over.name ≠ "<init>" ∧ (parseMethodDescriptor yX5_over.desc).map (fun d => d.parameters.length) = some 1 := ⟨by decide +kernel, hd_X5_over.2.2⟩
set_option maxHeartbeats 4000000 in
set_option maxRecDepth 100000 in
theorem wk_X5_over {X : XC} (O : XOk X cX5_over RX5 2 42) (hfl : (xL X).stackTraces = false) (hg : (xG X).2.2.2.2 = zAll (xG X).1.1 (xG X).1.2.2.2 (xG X).2.2.2.1) (hr : (xMeth X).sig.returnType = (some (.object "QuotientRows$Mono"))) (hm : (xC X).maxLocals = 4) (o : Nat) (x1 : Nat) (s : XS) : Sim X xI (retC X eR xI) 0 [(0, .ref o), (1, .ref x1)] [] s (x5_over o x1 s) := by
  have hzz := O.hst
  rw [hg] at hzz
  unfold x5_over
  refine s_iconst O (x := 4) (by decide) dX5_over_0 ?_
  refine x_newI O q204 dX5_over_1 (fun p1 s2 => ?_)
  refine s_astore_n O (L' := [(2, .ref p1), (0, .ref o), (1, .ref x1)]) hm (by decide) rfl rfl dX5_over_3 ?_
  refine s_iconst O (x := 0) (by decide) dX5_over_4 ?_
  refine s_istore_n O (L' := [(3, .int 0), (2, .ref p1), (0, .ref o), (1, .ref x1)]) hm (by decide) rfl rfl dX5_over_5 ?_
  refine Sim.sub (L' := [(0, .ref o), (1, .ref x1), (2, .ref p1), (3, .int 0)]) [2, 3, 1, 0] rfl ?_
  refine s_while (A := Int32) (B := Unit) (La := fun a6 => [(0, .ref o), (1, .ref x1), (2, .ref p1), (3, .int a6)]) (We := fun b6 s15 => xWX X 37 [(2, .ref p1)] [] ((xI) s15)) rfl rfl ?_ ?_
  · intro Cl hn he a6 s3
    unfold x5_over_s6
    refine s_iload_n O 3 rfl rfl dX5_over_6 ?_
    refine s_iconst O (x := 4) (by decide) dX5_over_7 ?_
    refine s_icmp_ge O (tgt := 37) dX5_over_8 (by decide) ?_ ?_
    · refine Sim.sub (L' := [(2, .ref p1)]) [2] rfl ?_
      exact Sim.ret (he _ _)
    · refine s_aload_n O 2 rfl rfl dX5_over_11 ?_
      refine s_iload_n O 3 rfl rfl dX5_over_12 ?_
      refine s_iconst O (x := 0) (by decide) dX5_over_13 ?_
      refine s_aload_n O 0 rfl rfl dX5_over_14 ?_
      refine x_get O (ci := 5) (T := TX5) (N := 2) in_X5 rfl 0 (by decide) q706 (fun _ h => h) dX5_over_15 (fun v0 => ?_)
      refine s_vR (fun r4 => ?_)
      refine s_iload_n O 3 rfl rfl dX5_over_18 ?_
      refine s_dr (fun p5 hp6 => ?_)
      subst hp6
      refine x_iald O dX5_over_19 (fun u7 => ?_)
      refine s_aload_n O 1 rfl rfl dX5_over_20 ?_
      refine x_get O (ci := 5) (T := TX5) (N := 2) in_X5 rfl 0 (by decide) q706 (fun _ h => h) dX5_over_21 (fun v0 => ?_)
      refine s_vR (fun r8 => ?_)
      refine s_iload_n O 3 rfl rfl dX5_over_24 ?_
      refine s_dr (fun p9 hp10 => ?_)
      subst hp10
      refine x_iald O dX5_over_25 (fun u11 => ?_)
      refine s_isub O dX5_over_26 ?_
      refine s_callP O (enc2 := eI) (av := [.int 0, .int (u7 - u11)]) (rest := [.int a6, .ref p1]) 2 (fun v0 h0 => mt_J8_max (xL X) (xG X) _ 0 (u7 - u11) v0 h0) (lw_S q1373 q437 q143 q438) hd_J8_max ⟨Nat.le_of_ble_eq_true rfl, Nat.le_of_ble_eq_true rfl⟩ rfl (Nat.le_of_ble_eq_true rfl) dX5_over_27 (fun v12 => ?_)
      refine x_iast O dX5_over_30 (fun s14 => ?_)
      refine s_iinc O (y := (a6 + 1)) (L' := [(3, .int (a6 + 1)), (0, .ref o), (1, .ref x1), (2, .ref p1)]) 3 rfl hm (by decide) rfl rfl dX5_over_31 ?_
      refine s_goto O (tgt := 6) dX5_over_34 (by decide) ?_
      refine Sim.sub (L' := [(0, .ref o), (1, .ref x1), (2, .ref p1), (3, .int (a6 + 1))]) [1, 2, 3, 0] rfl ?_
      exact Sim.ret (hn _ _)
  · intro b6 s15
    show Sim X (xI) (retC X eR xI) 37 [(2, .ref p1)] [] s15 _
    refine x_new O (ci := 5) (T := TX5) (N := 2) (fs := dfX5) in_X5 tyX5 tyX5_ok rfl 2 q1374 q701 q151 rfl dfX5_ok dX5_over_37 (fun p16 s17 => ?_)
    refine s_dup O rfl dX5_over_40 ?_
    refine s_aload_n O 0 rfl rfl dX5_over_41 ?_
    refine x_callI O (enc2 := eU) (av := [.ref p1]) (rest := [.ref p16]) 1 (fun v0 t0 h0 => mt_X5_init (xL X) (xG X) hfl hg p16 p1 _ t0 v0 h0) q704 q151 q949 q703 rfl hd_X5_init ⟨Nat.le_of_ble_eq_true rfl, Nat.le_of_ble_eq_true rfl⟩ rfl (Nat.le_of_ble_eq_true rfl) dX5_over_42 (fun v18 s19 => ?_)
    exact s_areturnQ O (r := (some p16)) hr (Or.inl ⟨_, rfl⟩) rfl dX5_over_45
theorem mt_X5_over (l : Launch) (G : XG) (hfl : l.stackTraces = false) (hg : G.2.2.2.2 = zAll G.1.1 G.1.2.2.2 G.2.2.2.1) (o : Nat) (x1 : Nat) (s t : XS) (v : Option Nat) (h : x5_over o x1 s = some (v, t)) : xMet l yX5_over (ws_ yX5_over cX5_over 4 (some (.object "QuotientRows$Mono"))) 2 42 G (xI s) [.ref o, .ref x1] (eR v) (xI t) :=
  xMet_of (E := xI) (enc := eR) (by decide +kernel) (Nat.le_of_ble_eq_true rfl) (fun X hl hG O hr hm => by subst hl; subst hG; exact wk_X5_over O hfl hg hr hm o x1 s) h
theorem hd_X0_divide : yX0_divide.cls ≠ "java/lang/invoke/MethodHandle" ∧ yX0_divide.cls ≠ "java/lang/invoke/VarHandle" ∧ (parseMethodDescriptor yX0_divide.desc).map (fun d => d.parameters.length) = some 2 := by decide +kernel
theorem hv_X0_divide : yX0_divide.cls = RX0 ∧ yX0_divide.cls ≠ "java/lang/invoke/MethodHandle" ∧ yX0_divide.cls ≠ "java/lang/invoke/VarHandle" ∧ (parseMethodDescriptor yX0_divide.desc).map (fun d => d.parameters.length) = some 2 := ⟨rfl, hd_X0_divide⟩
theorem hu_X0_divide : yX0_divide.name ≠ "<init>" ∧ (parseMethodDescriptor yX0_divide.desc).map (fun d => d.parameters.length) = some 2 := ⟨by decide +kernel, hd_X0_divide.2.2⟩
set_option maxHeartbeats 4000000 in
set_option maxRecDepth 100000 in
theorem wk_X0_divide {X : XC} (O : XOk X cX0_divide RX0 8 212) (hfl : (xL X).stackTraces = false) (hg : (xG X).2.2.2.2 = zAll (xG X).1.1 (xG X).1.2.2.2 (xG X).2.2.2.1) (hr : (xMeth X).sig.returnType = (some .int)) (hm : (xC X).maxLocals = 7) (o : Nat) (x1 : Int32) (x2 : Int32) (s : XS) : Sim X xI (retC X eI xI) 0 [(0, .ref o), (1, .int x1), (2, .int x2)] [] s (x0_divide o x1 x2 s) := by
  have hzz := O.hst
  rw [hg] at hzz
  unfold x0_divide
  refine s_aload_n O 0 rfl rfl dX0_divide_0 ?_
  refine s_iload_n O 1 rfl rfl dX0_divide_1 ?_
  refine s_iload_n O 2 rfl rfl dX0_divide_2 ?_
  refine x_callV O (enc2 := eI) (ci := 0) (av := [.int x1, .int x2]) (rest := []) 2 (fun v0 t0 h0 => mt_X0_canAct (xL X) (xG X) hfl hg o x1 x2 _ t0 v0 h0) (lw_V q1356 q1358 qs48 q131 q1359) hv_X0_canAct ⟨Nat.le_of_ble_eq_true rfl, Nat.le_of_ble_eq_true rfl⟩ rfl rfl (Nat.le_of_ble_eq_true rfl) dX0_divide_3 (fun v1 s2 => ?_)
  refine s_if_ne O (tgt := 15) dX0_divide_6 (by decide) ?_ ?_
  · refine s_aload_n O 0 rfl rfl dX0_divide_15 ?_
    refine s_iload_n O 1 rfl rfl dX0_divide_16 ?_
    refine s_iload_n O 2 rfl rfl dX0_divide_17 ?_
    refine x_callV O (enc2 := eR) (ci := 0) (av := [.int x1, .int x2]) (rest := []) 2 (fun v0 t0 h0 => mt_X0_mono (xL X) (xG X) hfl hg o x1 x2 _ t0 v0 h0) (lw_V q941 q943 qs25 q131 q944) hv_X0_mono ⟨Nat.le_of_ble_eq_true rfl, Nat.le_of_ble_eq_true rfl⟩ rfl rfl (Nat.le_of_ble_eq_true rfl) dX0_divide_18 (fun r3 s4 => ?_)
    refine s_astore_nQ O (r := r3) (L' := [(0, .ref o), (1, .int x1), (2, .int x2)]) rfl hm (by decide) (fun _ => rfl) dX0_divide_21 ?_
    refine s_aload_n O 1 rfl rfl dX0_divide_22 ?_
    refine x_callV O (enc2 := eR) (ci := 0) (av := []) (rest := []) 0 (fun v0 t0 h0 => mt_X0_like (xL X) (xG X) hfl hg o _ t0 v0 h0) (lw_V q1360 q1362 qs49 q131 q1363) hv_X0_like ⟨Nat.le_of_ble_eq_true rfl, Nat.le_of_ble_eq_true rfl⟩ rfl rfl (Nat.le_of_ble_eq_true rfl) dX0_divide_23 (fun r5 s6 => ?_)
    refine s_astoreQ O (r := r5) (L' := [(3, va_rf r3), (0, .ref o), (1, .int x1), (2, .int x2)]) hm (by decide) (fun _ => (by generalize r3 = zq0; cases zq0 <;> rfl)) dX0_divide_26 ?_
    refine s_aload_n O 2 rfl rfl dX0_divide_28 ?_
    refine x_get O (ci := 0) (T := TX0) (N := 20) in_X0 rfl 3 (by decide) q234 (fun _ h => h) dX0_divide_29 (fun v0 => ?_)
    refine s_vR (fun r7 => ?_)
    refine s_dr (fun p8 hp9 => ?_)
    subst hp9
    refine x_getN O (ci := 1) (T := TX1) (N := 6) in_X1 rfl 1 (by decide) (zf_q208 hzz) (fun _ h => h) dX0_divide_32 (fun v0 => ?_)
    refine s_vR (fun r10 => ?_)
    refine s_dr (fun p11 hp12 => ?_)
    subst hp12
    refine x_callF O (enc2 := eR) (ci := 7) (av := []) (rest := []) 0 (fun v0 t0 h0 => mt_J2_iterator (xL X) (xG X) hfl hg p11 _ t0 v0 h0) (lw_F q1210 q782 q784 q135 q786) (zw_2 hzz) hf_J2_iterator ⟨Nat.le_of_ble_eq_true rfl, Nat.le_of_ble_eq_true rfl⟩ rfl rfl (Nat.le_of_ble_eq_true rfl) dX0_divide_35 (fun r13 s14 => ?_)
    refine s_astoreQ O (r := r13) (L' := [(4, va_rf r5), (3, va_rf r3), (0, .ref o), (1, .int x1), (2, .int x2)]) hm (by decide) (fun _ => (by generalize r5 = zq0; cases zq0 <;> rfl)) dX0_divide_40 ?_
    refine Sim.sub (L' := [(0, .ref o), (3, va_rf r3), (4, va_rf r5), (5, va_rf r13)]) [3, 2, 1, 0] rfl ?_
    refine s_while (A := Unit) (B := Unit) (La := fun _ => [(0, .ref o), (3, va_rf r3), (4, va_rf r5), (5, va_rf r13)]) (We := fun b42 s34 => xWX X 79 [(0, .ref o), (4, va_rf r5)] [] ((xI) s34)) rfl rfl ?_ ?_
    · intro Cl hn he a42 s15
      unfold x0_divide_s42
      refine s_aloadQ O 3 rfl dX0_divide_42 ?_
      refine s_dr (fun p16 hp17 => ?_)
      subst hp17
      refine x_callF O (enc2 := eI) (ci := 8) (av := []) (rest := []) 0 (fun v0 t0 h0 => mt_J14_hasNext (xL X) (xG X) hfl hg p16 _ t0 v0 h0) (lw_F q1212 q811 q813 q152 q815) (zw_7 hzz) hf_J14_hasNext ⟨Nat.le_of_ble_eq_true rfl, Nat.le_of_ble_eq_true rfl⟩ rfl rfl (Nat.le_of_ble_eq_true rfl) dX0_divide_44 (fun v18 s19 => ?_)
      refine s_if_eq O (tgt := 79) dX0_divide_49 (by decide) ?_ ?_
      · refine Sim.sub (L' := [(0, .ref o), (4, va_rf r5)]) [0, 2] rfl ?_
        exact Sim.ret (he _ _)
      · refine s_aload O 3 rfl dX0_divide_52 ?_
        refine x_callF O (enc2 := eR) (ci := 8) (av := []) (rest := []) 0 (fun v0 t0 h0 => mt_J14_next (xL X) (xG X) hfl hg p16 _ t0 v0 h0) (lw_F q1214 q820 q822 q152 q824) (zw_8 hzz) hf_J14_next ⟨Nat.le_of_ble_eq_true rfl, Nat.le_of_ble_eq_true rfl⟩ rfl rfl (Nat.le_of_ble_eq_true rfl) dX0_divide_54 (fun r20 s21 => ?_)
        refine s_dr (fun p22 hp23 => ?_)
        subst hp23
        refine x_cast O (ci := 5) rfl q945 dX0_divide_59 ?_
        refine s_astore O (L' := [(6, .ref p22), (0, .ref o), (3, va_rf r3), (4, va_rf r5), (5, .ref p16)]) hm (by decide) rfl dX0_divide_62 ?_
        refine s_aloadQ O 3 rfl dX0_divide_64 ?_
        refine s_aload O 0 rfl dX0_divide_66 ?_
        refine s_aload_nQ O 2 rfl rfl dX0_divide_68 ?_
        refine s_dr (fun p24 hp25 => ?_)
        subst hp25
        refine x_callV O (enc2 := eR) (ci := 5) (av := [.ref p24]) (rest := [va_rf r5]) 1 (fun v0 t0 h0 => mt_X5_over (xL X) (xG X) hfl hg p22 p24 _ t0 v0 h0) (lw_V q1369 q1370 q1371 q151 q1372) hv_X5_over ⟨Nat.le_of_ble_eq_true rfl, Nat.le_of_ble_eq_true rfl⟩ rfl rfl (by generalize r5 = zq0; cases zq0 <;> exact Nat.le_of_ble_eq_true rfl) dX0_divide_69 (fun r26 s27 => ?_)
        refine s_dr (fun p28 hp29 => ?_)
        subst hp29
        refine s_dr (fun p30 hp31 => ?_)
        subst hp31
        refine x_callV O (enc2 := eR) (ci := 1) (av := [.ref p28]) (rest := []) 1 (fun v0 t0 h0 => mt_X1_with (xL X) (xG X) hfl hg p30 p28 _ t0 v0 h0) (lw_V q1364 q831 q832 q132 q833) hv_X1_with ⟨Nat.le_of_ble_eq_true rfl, Nat.le_of_ble_eq_true rfl⟩ rfl rfl (Nat.le_of_ble_eq_true rfl) dX0_divide_72 (fun r32 s33 => ?_)
        refine s_pop O (va_cat _) dX0_divide_75 ?_
        refine s_goto O (tgt := 42) dX0_divide_76 (by decide) ?_
        refine Sim.sub (L' := [(0, .ref o), (3, .ref p24), (4, .ref p30), (5, .ref p16)]) [1, 2, 3, 4] rfl ?_
        exact Sim.ret (hn _ _)
    · intro b42 s34
      show Sim X (xI) (retC X eI xI) 79 [(0, .ref o), (4, va_rf r5)] [] s34 _
      refine s_aload_n O 0 rfl rfl dX0_divide_79 ?_
      refine s_aloadQ O 1 rfl dX0_divide_80 ?_
      refine s_dr (fun p35 hp36 => ?_)
      subst hp36
      refine x_callV O (enc2 := eU) (ci := 0) (av := [.ref p35]) (rest := []) 1 (fun v0 t0 h0 => mt_X0_becomes (xL X) (xG X) hfl hg o p35 _ t0 v0 h0) (lw_V q892 q894 qs22 q131 q895) hv_X0_becomes ⟨Nat.le_of_ble_eq_true rfl, Nat.le_of_ble_eq_true rfl⟩ rfl rfl (Nat.le_of_ble_eq_true rfl) dX0_divide_82 (fun v37 s38 => ?_)
      refine s_aload O 1 rfl dX0_divide_85 ?_
      refine x_getN O (ci := 1) (T := TX1) (N := 6) in_X1 rfl 1 (by decide) (zf_q208 hzz) (fun _ h => h) dX0_divide_87 (fun v0 => ?_)
      refine s_vR (fun r39 => ?_)
      refine s_dr (fun p40 hp41 => ?_)
      subst hp41
      refine x_callF O (enc2 := eI) (ci := 7) (av := []) (rest := []) 0 (fun v0 t0 h0 => mt_J2_size (xL X) (xG X) hfl hg p40 _ t0 v0 h0) (lw_F q897 q695 q697 q135 q699) (zw_0 hzz) hf_J2_size ⟨Nat.le_of_ble_eq_true rfl, Nat.le_of_ble_eq_true rfl⟩ rfl rfl (Nat.le_of_ble_eq_true rfl) dX0_divide_90 (fun v42 s43 => ?_)
      exact s_ireturn O hr rfl dX0_divide_95
  · refine s_aload_n O 0 rfl rfl dX0_divide_9 ?_
    refine s_iconst O (x := 2) (by decide) dX0_divide_10 ?_
    refine x_callV O (enc2 := eI) (ci := 0) (av := [.int 2]) (rest := []) 1 (fun v0 t0 h0 => mt_X0_refused (xL X) (xG X) hfl hg o 2 _ t0 v0 h0) (lw_V q296 q298 qs0 q131 q299) hv_X0_refused ⟨Nat.le_of_ble_eq_true rfl, Nat.le_of_ble_eq_true rfl⟩ rfl rfl (Nat.le_of_ble_eq_true rfl) dX0_divide_11 (fun v44 s45 => ?_)
    exact s_ireturn O hr rfl dX0_divide_14
theorem mt_X0_divide (l : Launch) (G : XG) (hfl : l.stackTraces = false) (hg : G.2.2.2.2 = zAll G.1.1 G.1.2.2.2 G.2.2.2.1) (o : Nat) (x1 : Int32) (x2 : Int32) (s t : XS) (v : Int32) (h : x0_divide o x1 x2 s = some (v, t)) : xMet l yX0_divide (ws_ yX0_divide cX0_divide 7 (some .int)) 8 212 G (xI s) [.ref o, .int x1, .int x2] (eI v) (xI t) :=
  xMet_of (E := xI) (enc := eI) (by decide +kernel) (Nat.le_of_ble_eq_true rfl) (fun X hl hG O hr hm => by subst hl; subst hG; exact wk_X0_divide O hfl hg hr hm o x1 x2 s) h
theorem hd_X5_times : yX5_times.cls ≠ "java/lang/invoke/MethodHandle" ∧ yX5_times.cls ≠ "java/lang/invoke/VarHandle" ∧ (parseMethodDescriptor yX5_times.desc).map (fun d => d.parameters.length) = some 1 := by decide +kernel
theorem hv_X5_times : yX5_times.cls = RX5 ∧ yX5_times.cls ≠ "java/lang/invoke/MethodHandle" ∧ yX5_times.cls ≠ "java/lang/invoke/VarHandle" ∧ (parseMethodDescriptor yX5_times.desc).map (fun d => d.parameters.length) = some 1 := ⟨rfl, hd_X5_times⟩
theorem hu_X5_times : yX5_times.name ≠ "<init>" ∧ (parseMethodDescriptor yX5_times.desc).map (fun d => d.parameters.length) = some 1 := ⟨by decide +kernel, hd_X5_times.2.2⟩
set_option maxHeartbeats 4000000 in
set_option maxRecDepth 100000 in
theorem wk_X5_times {X : XC} (O : XOk X cX5_times RX5 2 42) (hfl : (xL X).stackTraces = false) (hg : (xG X).2.2.2.2 = zAll (xG X).1.1 (xG X).1.2.2.2 (xG X).2.2.2.1) (hr : (xMeth X).sig.returnType = (some (.object "QuotientRows$Mono"))) (hm : (xC X).maxLocals = 2) (o : Nat) (x1 : Nat) (s : XS) : Sim X xI (retC X eR xI) 0 [(0, .ref o), (1, .ref x1)] [] s (x5_times o x1 s) := by
  have hzz := O.hst
  rw [hg] at hzz
  unfold x5_times
  refine x_new O (ci := 5) (T := TX5) (N := 2) (fs := dfX5) in_X5 tyX5 tyX5_ok rfl 2 q1374 q701 q151 rfl dfX5_ok dX5_times_0 (fun p1 s2 => ?_)
  refine s_dup O rfl dX5_times_3 ?_
  refine s_iconst O (x := 4) (by decide) dX5_times_4 ?_
  refine x_newI O q204 dX5_times_5 (fun p3 s4 => ?_)
  refine s_dup O rfl dX5_times_7 ?_
  refine s_iconst O (x := 0) (by decide) dX5_times_8 ?_
  refine s_aload_n O 0 rfl rfl dX5_times_9 ?_
  refine x_get O (ci := 5) (T := TX5) (N := 2) in_X5 rfl 0 (by decide) q706 (fun _ h => h) dX5_times_10 (fun v0 => ?_)
  refine s_vR (fun r5 => ?_)
  refine s_iconst O (x := 0) (by decide) dX5_times_13 ?_
  refine s_dr (fun p6 hp7 => ?_)
  subst hp7
  refine x_iald O dX5_times_14 (fun u8 => ?_)
  refine s_aload_n O 1 rfl rfl dX5_times_15 ?_
  refine x_get O (ci := 5) (T := TX5) (N := 2) in_X5 rfl 0 (by decide) q706 (fun _ h => h) dX5_times_16 (fun v0 => ?_)
  refine s_vR (fun r9 => ?_)
  refine s_iconst O (x := 0) (by decide) dX5_times_19 ?_
  refine s_dr (fun p10 hp11 => ?_)
  subst hp11
  refine x_iald O dX5_times_20 (fun u12 => ?_)
  refine s_iadd O dX5_times_21 ?_
  refine x_iast O dX5_times_22 (fun s13 => ?_)
  refine s_dup O rfl dX5_times_23 ?_
  refine s_iconst O (x := 1) (by decide) dX5_times_24 ?_
  refine s_aload_n O 0 rfl rfl dX5_times_25 ?_
  refine x_get O (ci := 5) (T := TX5) (N := 2) in_X5 rfl 0 (by decide) q706 (fun _ h => h) dX5_times_26 (fun v0 => ?_)
  refine s_vR (fun r14 => ?_)
  refine s_iconst O (x := 1) (by decide) dX5_times_29 ?_
  refine s_dr (fun p15 hp16 => ?_)
  subst hp16
  refine x_iald O dX5_times_30 (fun u17 => ?_)
  refine s_aload_n O 1 rfl rfl dX5_times_31 ?_
  refine x_get O (ci := 5) (T := TX5) (N := 2) in_X5 rfl 0 (by decide) q706 (fun _ h => h) dX5_times_32 (fun v0 => ?_)
  refine s_vR (fun r18 => ?_)
  refine s_iconst O (x := 1) (by decide) dX5_times_35 ?_
  refine s_dr (fun p19 hp20 => ?_)
  subst hp20
  refine x_iald O dX5_times_36 (fun u21 => ?_)
  refine s_iadd O dX5_times_37 ?_
  refine x_iast O dX5_times_38 (fun s22 => ?_)
  refine s_dup O rfl dX5_times_39 ?_
  refine s_iconst O (x := 2) (by decide) dX5_times_40 ?_
  refine s_aload_n O 0 rfl rfl dX5_times_41 ?_
  refine x_get O (ci := 5) (T := TX5) (N := 2) in_X5 rfl 0 (by decide) q706 (fun _ h => h) dX5_times_42 (fun v0 => ?_)
  refine s_vR (fun r23 => ?_)
  refine s_iconst O (x := 2) (by decide) dX5_times_45 ?_
  refine s_dr (fun p24 hp25 => ?_)
  subst hp25
  refine x_iald O dX5_times_46 (fun u26 => ?_)
  refine s_aload_n O 1 rfl rfl dX5_times_47 ?_
  refine x_get O (ci := 5) (T := TX5) (N := 2) in_X5 rfl 0 (by decide) q706 (fun _ h => h) dX5_times_48 (fun v0 => ?_)
  refine s_vR (fun r27 => ?_)
  refine s_iconst O (x := 2) (by decide) dX5_times_51 ?_
  refine s_dr (fun p28 hp29 => ?_)
  subst hp29
  refine x_iald O dX5_times_52 (fun u30 => ?_)
  refine s_iadd O dX5_times_53 ?_
  refine x_iast O dX5_times_54 (fun s31 => ?_)
  refine s_dup O rfl dX5_times_55 ?_
  refine s_iconst O (x := 3) (by decide) dX5_times_56 ?_
  refine s_aload_n O 0 rfl rfl dX5_times_57 ?_
  refine x_get O (ci := 5) (T := TX5) (N := 2) in_X5 rfl 0 (by decide) q706 (fun _ h => h) dX5_times_58 (fun v0 => ?_)
  refine s_vR (fun r32 => ?_)
  refine s_iconst O (x := 3) (by decide) dX5_times_61 ?_
  refine s_dr (fun p33 hp34 => ?_)
  subst hp34
  refine x_iald O dX5_times_62 (fun u35 => ?_)
  refine s_aload_n O 1 rfl rfl dX5_times_63 ?_
  refine x_get O (ci := 5) (T := TX5) (N := 2) in_X5 rfl 0 (by decide) q706 (fun _ h => h) dX5_times_64 (fun v0 => ?_)
  refine s_vR (fun r36 => ?_)
  refine s_iconst O (x := 3) (by decide) dX5_times_67 ?_
  refine s_dr (fun p37 hp38 => ?_)
  subst hp38
  refine x_iald O dX5_times_68 (fun u39 => ?_)
  refine s_iadd O dX5_times_69 ?_
  refine x_iast O dX5_times_70 (fun s40 => ?_)
  refine x_callI O (enc2 := eU) (av := [.ref p3]) (rest := [.ref p1]) 1 (fun v0 t0 h0 => mt_X5_init (xL X) (xG X) hfl hg p1 p3 _ t0 v0 h0) q704 q151 q949 q703 rfl hd_X5_init ⟨Nat.le_of_ble_eq_true rfl, Nat.le_of_ble_eq_true rfl⟩ rfl (Nat.le_of_ble_eq_true rfl) dX5_times_71 (fun v41 s42 => ?_)
  exact s_areturnQ O (r := (some p1)) hr (Or.inl ⟨_, rfl⟩) rfl dX5_times_74
theorem mt_X5_times (l : Launch) (G : XG) (hfl : l.stackTraces = false) (hg : G.2.2.2.2 = zAll G.1.1 G.1.2.2.2 G.2.2.2.1) (o : Nat) (x1 : Nat) (s t : XS) (v : Option Nat) (h : x5_times o x1 s = some (v, t)) : xMet l yX5_times (ws_ yX5_times cX5_times 2 (some (.object "QuotientRows$Mono"))) 2 42 G (xI s) [.ref o, .ref x1] (eR v) (xI t) :=
  xMet_of (E := xI) (enc := eR) (by decide +kernel) (Nat.le_of_ble_eq_true rfl) (fun X hl hG O hr hm => by subst hl; subst hG; exact wk_X5_times O hfl hg hr hm o x1 s) h
theorem hd_X0_times : yX0_times.cls ≠ "java/lang/invoke/MethodHandle" ∧ yX0_times.cls ≠ "java/lang/invoke/VarHandle" ∧ (parseMethodDescriptor yX0_times.desc).map (fun d => d.parameters.length) = some 2 := by decide +kernel
theorem hv_X0_times : yX0_times.cls = RX0 ∧ yX0_times.cls ≠ "java/lang/invoke/MethodHandle" ∧ yX0_times.cls ≠ "java/lang/invoke/VarHandle" ∧ (parseMethodDescriptor yX0_times.desc).map (fun d => d.parameters.length) = some 2 := ⟨rfl, hd_X0_times⟩
theorem hu_X0_times : yX0_times.name ≠ "<init>" ∧ (parseMethodDescriptor yX0_times.desc).map (fun d => d.parameters.length) = some 2 := ⟨by decide +kernel, hd_X0_times.2.2⟩
set_option maxHeartbeats 4000000 in
set_option maxRecDepth 100000 in
theorem wk_X0_times {X : XC} (O : XOk X cX0_times RX0 8 212) (hfl : (xL X).stackTraces = false) (hg : (xG X).2.2.2.2 = zAll (xG X).1.1 (xG X).1.2.2.2 (xG X).2.2.2.1) (hr : (xMeth X).sig.returnType = (some .int)) (hm : (xC X).maxLocals = 7) (o : Nat) (x1 : Int32) (x2 : Int32) (s : XS) : Sim X xI (retC X eI xI) 0 [(0, .ref o), (1, .int x1), (2, .int x2)] [] s (x0_times o x1 x2 s) := by
  have hzz := O.hst
  rw [hg] at hzz
  unfold x0_times
  have hj44 : ∀ (s10 : XS), Sim X (xI) (retC X eI xI) 44 [(0, .ref o), (1, .int x1), (2, .int x2)] [] s10 (x0_times_j44 o x1 x2 s10) := by
    intro s10
    unfold x0_times_j44
    refine s_aload_n O 0 rfl rfl dX0_times_44 ?_
    refine s_iload_n O 1 rfl rfl dX0_times_45 ?_
    refine s_iload_n O 2 rfl rfl dX0_times_46 ?_
    refine x_callV O (enc2 := eR) (ci := 0) (av := [.int x1, .int x2]) (rest := []) 2 (fun v0 t0 h0 => mt_X0_mono (xL X) (xG X) hfl hg o x1 x2 _ t0 v0 h0) (lw_V q941 q943 qs25 q131 q944) hv_X0_mono ⟨Nat.le_of_ble_eq_true rfl, Nat.le_of_ble_eq_true rfl⟩ rfl rfl (Nat.le_of_ble_eq_true rfl) dX0_times_47 (fun r11 s12 => ?_)
    refine s_astore_nQ O (r := r11) (L' := [(0, .ref o), (1, .int x1), (2, .int x2)]) rfl hm (by decide) (fun _ => rfl) dX0_times_50 ?_
    refine s_aload_n O 1 rfl rfl dX0_times_51 ?_
    refine x_callV O (enc2 := eR) (ci := 0) (av := []) (rest := []) 0 (fun v0 t0 h0 => mt_X0_like (xL X) (xG X) hfl hg o _ t0 v0 h0) (lw_V q1360 q1362 qs49 q131 q1363) hv_X0_like ⟨Nat.le_of_ble_eq_true rfl, Nat.le_of_ble_eq_true rfl⟩ rfl rfl (Nat.le_of_ble_eq_true rfl) dX0_times_52 (fun r13 s14 => ?_)
    refine s_astoreQ O (r := r13) (L' := [(3, va_rf r11), (0, .ref o), (1, .int x1), (2, .int x2)]) hm (by decide) (fun _ => (by generalize r11 = zq0; cases zq0 <;> rfl)) dX0_times_55 ?_
    refine s_aload_n O 2 rfl rfl dX0_times_57 ?_
    refine x_get O (ci := 0) (T := TX0) (N := 20) in_X0 rfl 3 (by decide) q234 (fun _ h => h) dX0_times_58 (fun v0 => ?_)
    refine s_vR (fun r15 => ?_)
    refine s_dr (fun p16 hp17 => ?_)
    subst hp17
    refine x_getN O (ci := 1) (T := TX1) (N := 6) in_X1 rfl 1 (by decide) (zf_q208 hzz) (fun _ h => h) dX0_times_61 (fun v0 => ?_)
    refine s_vR (fun r18 => ?_)
    refine s_dr (fun p19 hp20 => ?_)
    subst hp20
    refine x_callF O (enc2 := eR) (ci := 7) (av := []) (rest := []) 0 (fun v0 t0 h0 => mt_J2_iterator (xL X) (xG X) hfl hg p19 _ t0 v0 h0) (lw_F q1210 q782 q784 q135 q786) (zw_2 hzz) hf_J2_iterator ⟨Nat.le_of_ble_eq_true rfl, Nat.le_of_ble_eq_true rfl⟩ rfl rfl (Nat.le_of_ble_eq_true rfl) dX0_times_64 (fun r21 s22 => ?_)
    refine s_astoreQ O (r := r21) (L' := [(4, va_rf r13), (3, va_rf r11), (0, .ref o), (1, .int x1), (2, .int x2)]) hm (by decide) (fun _ => (by generalize r13 = zq0; cases zq0 <;> rfl)) dX0_times_69 ?_
    refine Sim.sub (L' := [(0, .ref o), (3, va_rf r11), (4, va_rf r13), (5, va_rf r21)]) [3, 2, 1, 0] rfl ?_
    refine s_while (A := Unit) (B := Unit) (La := fun _ => [(0, .ref o), (3, va_rf r11), (4, va_rf r13), (5, va_rf r21)]) (We := fun b71 s42 => xWX X 108 [(0, .ref o), (4, va_rf r13)] [] ((xI) s42)) rfl rfl ?_ ?_
    · intro Cl hn he a71 s23
      unfold x0_times_s71
      refine s_aloadQ O 3 rfl dX0_times_71 ?_
      refine s_dr (fun p24 hp25 => ?_)
      subst hp25
      refine x_callF O (enc2 := eI) (ci := 8) (av := []) (rest := []) 0 (fun v0 t0 h0 => mt_J14_hasNext (xL X) (xG X) hfl hg p24 _ t0 v0 h0) (lw_F q1212 q811 q813 q152 q815) (zw_7 hzz) hf_J14_hasNext ⟨Nat.le_of_ble_eq_true rfl, Nat.le_of_ble_eq_true rfl⟩ rfl rfl (Nat.le_of_ble_eq_true rfl) dX0_times_73 (fun v26 s27 => ?_)
      refine s_if_eq O (tgt := 108) dX0_times_78 (by decide) ?_ ?_
      · refine Sim.sub (L' := [(0, .ref o), (4, va_rf r13)]) [0, 2] rfl ?_
        exact Sim.ret (he _ _)
      · refine s_aload O 3 rfl dX0_times_81 ?_
        refine x_callF O (enc2 := eR) (ci := 8) (av := []) (rest := []) 0 (fun v0 t0 h0 => mt_J14_next (xL X) (xG X) hfl hg p24 _ t0 v0 h0) (lw_F q1214 q820 q822 q152 q824) (zw_8 hzz) hf_J14_next ⟨Nat.le_of_ble_eq_true rfl, Nat.le_of_ble_eq_true rfl⟩ rfl rfl (Nat.le_of_ble_eq_true rfl) dX0_times_83 (fun r28 s29 => ?_)
        refine s_dr (fun p30 hp31 => ?_)
        subst hp31
        refine x_cast O (ci := 5) rfl q945 dX0_times_88 ?_
        refine s_astore O (L' := [(6, .ref p30), (0, .ref o), (3, va_rf r11), (4, va_rf r13), (5, .ref p24)]) hm (by decide) rfl dX0_times_91 ?_
        refine s_aloadQ O 3 rfl dX0_times_93 ?_
        refine s_aload O 0 rfl dX0_times_95 ?_
        refine s_aload_nQ O 2 rfl rfl dX0_times_97 ?_
        refine s_dr (fun p32 hp33 => ?_)
        subst hp33
        refine x_callV O (enc2 := eR) (ci := 5) (av := [.ref p32]) (rest := [va_rf r13]) 1 (fun v0 t0 h0 => mt_X5_times (xL X) (xG X) hfl hg p30 p32 _ t0 v0 h0) (lw_V q1381 q1382 q1383 q151 q1384) hv_X5_times ⟨Nat.le_of_ble_eq_true rfl, Nat.le_of_ble_eq_true rfl⟩ rfl rfl (by generalize r13 = zq0; cases zq0 <;> exact Nat.le_of_ble_eq_true rfl) dX0_times_98 (fun r34 s35 => ?_)
        refine s_dr (fun p36 hp37 => ?_)
        subst hp37
        refine s_dr (fun p38 hp39 => ?_)
        subst hp39
        refine x_callV O (enc2 := eR) (ci := 1) (av := [.ref p36]) (rest := []) 1 (fun v0 t0 h0 => mt_X1_with (xL X) (xG X) hfl hg p38 p36 _ t0 v0 h0) (lw_V q1364 q831 q832 q132 q833) hv_X1_with ⟨Nat.le_of_ble_eq_true rfl, Nat.le_of_ble_eq_true rfl⟩ rfl rfl (Nat.le_of_ble_eq_true rfl) dX0_times_101 (fun r40 s41 => ?_)
        refine s_pop O (va_cat _) dX0_times_104 ?_
        refine s_goto O (tgt := 71) dX0_times_105 (by decide) ?_
        refine Sim.sub (L' := [(0, .ref o), (3, .ref p32), (4, .ref p38), (5, .ref p24)]) [1, 2, 3, 4] rfl ?_
        exact Sim.ret (hn _ _)
    · intro b71 s42
      show Sim X (xI) (retC X eI xI) 108 [(0, .ref o), (4, va_rf r13)] [] s42 _
      refine s_aload_n O 0 rfl rfl dX0_times_108 ?_
      refine s_aloadQ O 1 rfl dX0_times_109 ?_
      refine s_dr (fun p43 hp44 => ?_)
      subst hp44
      refine x_callV O (enc2 := eU) (ci := 0) (av := [.ref p43]) (rest := []) 1 (fun v0 t0 h0 => mt_X0_becomes (xL X) (xG X) hfl hg o p43 _ t0 v0 h0) (lw_V q892 q894 qs22 q131 q895) hv_X0_becomes ⟨Nat.le_of_ble_eq_true rfl, Nat.le_of_ble_eq_true rfl⟩ rfl rfl (Nat.le_of_ble_eq_true rfl) dX0_times_111 (fun v45 s46 => ?_)
      refine s_aload O 1 rfl dX0_times_114 ?_
      refine x_getN O (ci := 1) (T := TX1) (N := 6) in_X1 rfl 1 (by decide) (zf_q208 hzz) (fun _ h => h) dX0_times_116 (fun v0 => ?_)
      refine s_vR (fun r47 => ?_)
      refine s_dr (fun p48 hp49 => ?_)
      subst hp49
      refine x_callF O (enc2 := eI) (ci := 7) (av := []) (rest := []) 0 (fun v0 t0 h0 => mt_J2_size (xL X) (xG X) hfl hg p48 _ t0 v0 h0) (lw_F q897 q695 q697 q135 q699) (zw_0 hzz) hf_J2_size ⟨Nat.le_of_ble_eq_true rfl, Nat.le_of_ble_eq_true rfl⟩ rfl rfl (Nat.le_of_ble_eq_true rfl) dX0_times_119 (fun v50 s51 => ?_)
      exact s_ireturn O hr rfl dX0_times_124
  refine s_aload_n O 0 rfl rfl dX0_times_0 ?_
  refine s_iload_n O 1 rfl rfl dX0_times_1 ?_
  refine s_iload_n O 2 rfl rfl dX0_times_2 ?_
  refine x_callV O (enc2 := eI) (ci := 0) (av := [.int x1, .int x2]) (rest := []) 2 (fun v0 t0 h0 => mt_X0_canAct (xL X) (xG X) hfl hg o x1 x2 _ t0 v0 h0) (lw_V q1356 q1358 qs48 q131 q1359) hv_X0_canAct ⟨Nat.le_of_ble_eq_true rfl, Nat.le_of_ble_eq_true rfl⟩ rfl rfl (Nat.le_of_ble_eq_true rfl) dX0_times_3 (fun v1 s2 => ?_)
  refine s_if_eq O (tgt := 38) dX0_times_6 (by decide) ?_ ?_
  · refine s_aload_n O 0 rfl rfl dX0_times_38 ?_
    refine s_iconst O (x := 2) (by decide) dX0_times_39 ?_
    refine x_callV O (enc2 := eI) (ci := 0) (av := [.int 2]) (rest := []) 1 (fun v0 t0 h0 => mt_X0_refused (xL X) (xG X) hfl hg o 2 _ t0 v0 h0) (lw_V q296 q298 qs0 q131 q299) hv_X0_refused ⟨Nat.le_of_ble_eq_true rfl, Nat.le_of_ble_eq_true rfl⟩ rfl rfl (Nat.le_of_ble_eq_true rfl) dX0_times_40 (fun v3 s4 => ?_)
    exact s_ireturn O hr rfl dX0_times_43
  · refine s_aload_n O 0 rfl rfl dX0_times_9 ?_
    refine x_get O (ci := 0) (T := TX0) (N := 20) in_X0 rfl 3 (by decide) q234 (fun _ h => h) dX0_times_10 (fun v0 => ?_)
    refine s_vR (fun r5 => ?_)
    refine s_dr (fun p6 hp7 => ?_)
    subst hp7
    refine x_callV O (enc2 := eI) (ci := 1) (av := []) (rest := []) 0 (fun v0 t0 h0 => mt_X1_highest (xL X) (xG X) hfl hg p6 _ t0 v0 h0) (lw_V q1123 q1124 q1125 q132 q1126) hv_X1_highest ⟨Nat.le_of_ble_eq_true rfl, Nat.le_of_ble_eq_true rfl⟩ rfl rfl (Nat.le_of_ble_eq_true rfl) dX0_times_13 (fun v8 s9 => ?_)
    refine s_iload_n O 1 rfl rfl dX0_times_16 ?_
    refine s_iadd O dX0_times_17 ?_
    refine s_bipush O (x := 8) (by decide) dX0_times_18 ?_
    refine s_icmp_le O (tgt := 44) dX0_times_20 (by decide) ?_ ?_
    · exact hj44 _
    · refine s_aload_n O 0 rfl rfl dX0_times_23 ?_
      refine x_get O (ci := 0) (T := TX0) (N := 20) in_X0 rfl 3 (by decide) q234 (fun _ h => h) dX0_times_24 (fun v0 => ?_)
      refine s_vR (fun r52 => ?_)
      refine s_dr (fun p53 hp54 => ?_)
      subst hp54
      refine x_getN O (ci := 1) (T := TX1) (N := 6) in_X1 rfl 1 (by decide) (zf_q208 hzz) (fun _ h => h) dX0_times_27 (fun v0 => ?_)
      refine s_vR (fun r55 => ?_)
      refine s_dr (fun p56 hp57 => ?_)
      subst hp57
      refine x_callF O (enc2 := eI) (ci := 7) (av := []) (rest := []) 0 (fun v0 t0 h0 => mt_J2_isEmpty (xL X) (xG X) hfl hg p56 _ t0 v0 h0) (lw_F q1380 q1131 q1133 q135 q1135) (zw_6 hzz) hf_J2_isEmpty ⟨Nat.le_of_ble_eq_true rfl, Nat.le_of_ble_eq_true rfl⟩ rfl rfl (Nat.le_of_ble_eq_true rfl) dX0_times_30 (fun v58 s59 => ?_)
      refine s_if_ne O (tgt := 44) dX0_times_35 (by decide) ?_ ?_
      · exact hj44 _
      · refine s_aload_n O 0 rfl rfl dX0_times_38 ?_
        refine s_iconst O (x := 2) (by decide) dX0_times_39 ?_
        refine x_callV O (enc2 := eI) (ci := 0) (av := [.int 2]) (rest := []) 1 (fun v0 t0 h0 => mt_X0_refused (xL X) (xG X) hfl hg o 2 _ t0 v0 h0) (lw_V q296 q298 qs0 q131 q299) hv_X0_refused ⟨Nat.le_of_ble_eq_true rfl, Nat.le_of_ble_eq_true rfl⟩ rfl rfl (Nat.le_of_ble_eq_true rfl) dX0_times_40 (fun v60 s61 => ?_)
        exact s_ireturn O hr rfl dX0_times_43
theorem mt_X0_times (l : Launch) (G : XG) (hfl : l.stackTraces = false) (hg : G.2.2.2.2 = zAll G.1.1 G.1.2.2.2 G.2.2.2.1) (o : Nat) (x1 : Int32) (x2 : Int32) (s t : XS) (v : Int32) (h : x0_times o x1 x2 s = some (v, t)) : xMet l yX0_times (ws_ yX0_times cX0_times 7 (some .int)) 8 212 G (xI s) [.ref o, .int x1, .int x2] (eI v) (xI t) :=
  xMet_of (E := xI) (enc := eI) (by decide +kernel) (Nat.le_of_ble_eq_true rfl) (fun X hl hG O hr hm => by subst hl; subst hG; exact wk_X0_times O hfl hg hr hm o x1 x2 s) h
theorem hd_X0_comes : yX0_comes.cls ≠ "java/lang/invoke/MethodHandle" ∧ yX0_comes.cls ≠ "java/lang/invoke/VarHandle" ∧ (parseMethodDescriptor yX0_comes.desc).map (fun d => d.parameters.length) = some 1 := by decide +kernel
theorem hv_X0_comes : yX0_comes.cls = RX0 ∧ yX0_comes.cls ≠ "java/lang/invoke/MethodHandle" ∧ yX0_comes.cls ≠ "java/lang/invoke/VarHandle" ∧ (parseMethodDescriptor yX0_comes.desc).map (fun d => d.parameters.length) = some 1 := ⟨rfl, hd_X0_comes⟩
theorem hu_X0_comes : yX0_comes.name ≠ "<init>" ∧ (parseMethodDescriptor yX0_comes.desc).map (fun d => d.parameters.length) = some 1 := ⟨by decide +kernel, hd_X0_comes.2.2⟩
set_option maxHeartbeats 4000000 in
set_option maxRecDepth 100000 in
theorem wk_X0_comes {X : XC} (O : XOk X cX0_comes RX0 8 212) (hfl : (xL X).stackTraces = false) (hg : (xG X).2.2.2.2 = zAll (xG X).1.1 (xG X).1.2.2.2 (xG X).2.2.2.1) (hr : (xMeth X).sig.returnType = (some .int)) (hm : (xC X).maxLocals = 2) (o : Nat) (x1 : Nat) (s : XS) : Sim X xI (retC X eI xI) 0 [(0, .ref o), (1, .ref x1)] [] s (x0_comes o x1 s) := by
  have hzz := O.hst
  rw [hg] at hzz
  unfold x0_comes
  refine s_aload_n O 1 rfl rfl dX0_comes_0 ?_
  refine x_getN O (ci := 1) (T := TX1) (N := 6) in_X1 rfl 1 (by decide) (zf_q208 hzz) (fun _ h => h) dX0_comes_1 (fun v0 => ?_)
  refine s_vR (fun r1 => ?_)
  refine s_dr (fun p2 hp3 => ?_)
  subst hp3
  refine x_callF O (enc2 := eI) (ci := 7) (av := []) (rest := []) 0 (fun v0 t0 h0 => mt_J2_size (xL X) (xG X) hfl hg p2 _ t0 v0 h0) (lw_F q897 q695 q697 q135 q699) (zw_0 hzz) hf_J2_size ⟨Nat.le_of_ble_eq_true rfl, Nat.le_of_ble_eq_true rfl⟩ rfl rfl (Nat.le_of_ble_eq_true rfl) dX0_comes_4 (fun v4 s5 => ?_)
  refine s_bipush O (x := 40) (by decide) dX0_comes_9 ?_
  refine s_icmp_gt O (tgt := 23) dX0_comes_11 (by decide) ?_ ?_
  · refine s_aload_n O 0 rfl rfl dX0_comes_23 ?_
    refine s_iconst O (x := 2) (by decide) dX0_comes_24 ?_
    refine x_callV O (enc2 := eI) (ci := 0) (av := [.int 2]) (rest := []) 1 (fun v0 t0 h0 => mt_X0_refused (xL X) (xG X) hfl hg o 2 _ t0 v0 h0) (lw_V q296 q298 qs0 q131 q299) hv_X0_refused ⟨Nat.le_of_ble_eq_true rfl, Nat.le_of_ble_eq_true rfl⟩ rfl rfl (Nat.le_of_ble_eq_true rfl) dX0_comes_25 (fun v6 s7 => ?_)
    exact s_ireturn O hr rfl dX0_comes_28
  · refine s_aload_n O 1 rfl rfl dX0_comes_14 ?_
    refine x_callV O (enc2 := eI) (ci := 1) (av := []) (rest := []) 0 (fun v0 t0 h0 => mt_X1_highest (xL X) (xG X) hfl hg x1 _ t0 v0 h0) (lw_V q1123 q1124 q1125 q132 q1126) hv_X1_highest ⟨Nat.le_of_ble_eq_true rfl, Nat.le_of_ble_eq_true rfl⟩ rfl rfl (Nat.le_of_ble_eq_true rfl) dX0_comes_15 (fun v8 s9 => ?_)
    refine s_bipush O (x := 8) (by decide) dX0_comes_18 ?_
    refine s_icmp_le O (tgt := 29) dX0_comes_20 (by decide) ?_ ?_
    · refine s_aload_n O 0 rfl rfl dX0_comes_29 ?_
      refine s_aload_n O 1 rfl rfl dX0_comes_30 ?_
      refine x_callV O (enc2 := eU) (ci := 0) (av := [.ref x1]) (rest := []) 1 (fun v0 t0 h0 => mt_X0_becomes (xL X) (xG X) hfl hg o x1 _ t0 v0 h0) (lw_V q892 q894 qs22 q131 q895) hv_X0_becomes ⟨Nat.le_of_ble_eq_true rfl, Nat.le_of_ble_eq_true rfl⟩ rfl rfl (Nat.le_of_ble_eq_true rfl) dX0_comes_31 (fun v10 s11 => ?_)
      refine s_aload_n O 1 rfl rfl dX0_comes_34 ?_
      refine x_getN O (ci := 1) (T := TX1) (N := 6) in_X1 rfl 1 (by decide) (zf_q208 hzz) (fun _ h => h) dX0_comes_35 (fun v0 => ?_)
      refine s_vR (fun r12 => ?_)
      refine s_dr (fun p13 hp14 => ?_)
      subst hp14
      refine x_callF O (enc2 := eI) (ci := 7) (av := []) (rest := []) 0 (fun v0 t0 h0 => mt_J2_size (xL X) (xG X) hfl hg p13 _ t0 v0 h0) (lw_F q897 q695 q697 q135 q699) (zw_0 hzz) hf_J2_size ⟨Nat.le_of_ble_eq_true rfl, Nat.le_of_ble_eq_true rfl⟩ rfl rfl (Nat.le_of_ble_eq_true rfl) dX0_comes_38 (fun v15 s16 => ?_)
      exact s_ireturn O hr rfl dX0_comes_43
    · refine s_aload_n O 0 rfl rfl dX0_comes_23 ?_
      refine s_iconst O (x := 2) (by decide) dX0_comes_24 ?_
      refine x_callV O (enc2 := eI) (ci := 0) (av := [.int 2]) (rest := []) 1 (fun v0 t0 h0 => mt_X0_refused (xL X) (xG X) hfl hg o 2 _ t0 v0 h0) (lw_V q296 q298 qs0 q131 q299) hv_X0_refused ⟨Nat.le_of_ble_eq_true rfl, Nat.le_of_ble_eq_true rfl⟩ rfl rfl (Nat.le_of_ble_eq_true rfl) dX0_comes_25 (fun v17 s18 => ?_)
      exact s_ireturn O hr rfl dX0_comes_28
theorem mt_X0_comes (l : Launch) (G : XG) (hfl : l.stackTraces = false) (hg : G.2.2.2.2 = zAll G.1.1 G.1.2.2.2 G.2.2.2.1) (o : Nat) (x1 : Nat) (s t : XS) (v : Int32) (h : x0_comes o x1 s = some (v, t)) : xMet l yX0_comes (ws_ yX0_comes cX0_comes 2 (some .int)) 8 212 G (xI s) [.ref o, .ref x1] (eI v) (xI t) :=
  xMet_of (E := xI) (enc := eI) (by decide +kernel) (Nat.le_of_ble_eq_true rfl) (fun X hl hG O hr hm => by subst hl; subst hG; exact wk_X0_comes O hfl hg hr hm o x1 s) h
theorem hd_X0_levelled : yX0_levelled.cls ≠ "java/lang/invoke/MethodHandle" ∧ yX0_levelled.cls ≠ "java/lang/invoke/VarHandle" ∧ (parseMethodDescriptor yX0_levelled.desc).map (fun d => d.parameters.length) = some 0 := by decide +kernel
theorem hv_X0_levelled : yX0_levelled.cls = RX0 ∧ yX0_levelled.cls ≠ "java/lang/invoke/MethodHandle" ∧ yX0_levelled.cls ≠ "java/lang/invoke/VarHandle" ∧ (parseMethodDescriptor yX0_levelled.desc).map (fun d => d.parameters.length) = some 0 := ⟨rfl, hd_X0_levelled⟩
theorem hu_X0_levelled : yX0_levelled.name ≠ "<init>" ∧ (parseMethodDescriptor yX0_levelled.desc).map (fun d => d.parameters.length) = some 0 := ⟨by decide +kernel, hd_X0_levelled.2.2⟩
set_option maxHeartbeats 4000000 in
set_option maxRecDepth 100000 in
theorem wk_X0_levelled {X : XC} (O : XOk X cX0_levelled RX0 9 233) (hfl : (xL X).stackTraces = false) (hg : (xG X).2.2.2.2 = zAll (xG X).1.1 (xG X).1.2.2.2 (xG X).2.2.2.1) (hr : (xMeth X).sig.returnType = (some .int)) (hm : (xC X).maxLocals = 3) (o : Nat) (s : XS) : Sim X xI (retC X eI xI) 0 [(0, .ref o)] [] s (x0_levelled o s) := by
  have hzz := O.hst
  rw [hg] at hzz
  unfold x0_levelled
  refine s_aload_n O 0 rfl rfl dX0_levelled_0 ?_
  refine x_callV O (enc2 := eR) (ci := 0) (av := []) (rest := []) 0 (fun v0 t0 h0 => mt_X0_like (xL X) (xG X) hfl hg o _ t0 v0 h0) (lw_V q1360 q1362 qs49 q131 q1363) hv_X0_like ⟨Nat.le_of_ble_eq_true rfl, Nat.le_of_ble_eq_true rfl⟩ rfl rfl (Nat.le_of_ble_eq_true rfl) dX0_levelled_1 (fun r1 s2 => ?_)
  refine s_aload_n O 0 rfl rfl dX0_levelled_4 ?_
  refine x_get O (ci := 0) (T := TX0) (N := 20) in_X0 rfl 3 (by decide) q234 (fun _ h => h) dX0_levelled_5 (fun v0 => ?_)
  refine s_vR (fun r3 => ?_)
  refine s_dr (fun p4 hp5 => ?_)
  subst hp5
  refine x_getN O (ci := 1) (T := TX1) (N := 6) in_X1 rfl 1 (by decide) (zf_q208 hzz) (fun _ h => h) dX0_levelled_8 (fun v0 => ?_)
  refine s_vR (fun r6 => ?_)
  refine s_dr (fun p7 hp8 => ?_)
  subst hp8
  refine s_dr (fun p9 hp10 => ?_)
  subst hp10
  refine x_callV O (enc2 := eR) (ci := 1) (av := [.ref p7]) (rest := []) 1 (fun v0 t0 h0 => mt_X1_withAll (xL X) (xG X) hfl hg p9 p7 _ t0 v0 h0) (lw_V q1291 q775 q776 q132 q777) hv_X1_withAll ⟨Nat.le_of_ble_eq_true rfl, Nat.le_of_ble_eq_true rfl⟩ rfl rfl (Nat.le_of_ble_eq_true rfl) dX0_levelled_11 (fun r11 s12 => ?_)
  refine s_astore_nQ O (r := r11) (L' := [(0, .ref o)]) rfl hm (by decide) (fun _ => rfl) dX0_levelled_14 ?_
  refine s_aload_nQ O 0 rfl rfl dX0_levelled_15 ?_
  refine s_dr (fun p13 hp14 => ?_)
  subst hp14
  refine x_callS O (enc2 := eR) (av := [.ref p13]) (rest := []) 1 (fun v0 t0 h0 => mt_X0_lacking (xL X) (xG X) hfl hg p13 _ t0 v0 h0) (lw_S q1206 q1207 q131 q1208) hd_X0_lacking ⟨Nat.le_of_ble_eq_true rfl, Nat.le_of_ble_eq_true rfl⟩ rfl (Nat.le_of_ble_eq_true rfl) dX0_levelled_16 (fun r15 s16 => ?_)
  refine s_astore_nQ O (r := r15) (L' := [(1, .ref p13), (0, .ref o)]) rfl hm (by decide) (fun _ => rfl) dX0_levelled_19 ?_
  refine Sim.sub (L' := [(0, .ref o), (1, .ref p13), (2, va_rf r15)]) [2, 1, 0] rfl ?_
  refine s_while (A := Option Nat) (B := Unit) (La := fun a20 => [(0, .ref o), (1, .ref p13), (2, va_rf a20)]) (We := fun b20 s23 => xWX X 38 [(0, .ref o), (1, .ref p13)] [] ((xI) s23)) rfl rfl ?_ ?_
  · intro Cl hn he a20 s17
    unfold x0_levelled_s20
    refine s_aload_nQ O 2 rfl rfl dX0_levelled_20 ?_
    refine s_ifnull O (tgt := 38) dX0_levelled_21 (by decide) (fun hr0 => ?_) (fun p18 hr0 => ?_)
    · subst hr0
      refine Sim.sub (L' := [(0, .ref o), (1, .ref p13)]) [0, 1] rfl ?_
      exact Sim.ret (he _ _)
    · subst hr0
      refine s_aload_n O 1 rfl rfl dX0_levelled_24 ?_
      refine s_aload_n O 2 rfl rfl dX0_levelled_25 ?_
      refine x_callV O (enc2 := eR) (ci := 1) (av := [.ref p18]) (rest := []) 1 (fun v0 t0 h0 => mt_X1_with (xL X) (xG X) hfl hg p13 p18 _ t0 v0 h0) (lw_V q1364 q831 q832 q132 q833) hv_X1_with ⟨Nat.le_of_ble_eq_true rfl, Nat.le_of_ble_eq_true rfl⟩ rfl rfl (Nat.le_of_ble_eq_true rfl) dX0_levelled_26 (fun r19 s20 => ?_)
      refine s_pop O (va_cat _) dX0_levelled_29 ?_
      refine s_aload_n O 1 rfl rfl dX0_levelled_30 ?_
      refine x_callS O (enc2 := eR) (av := [.ref p13]) (rest := []) 1 (fun v0 t0 h0 => mt_X0_lacking (xL X) (xG X) hfl hg p13 _ t0 v0 h0) (lw_S q1206 q1207 q131 q1208) hd_X0_lacking ⟨Nat.le_of_ble_eq_true rfl, Nat.le_of_ble_eq_true rfl⟩ rfl (Nat.le_of_ble_eq_true rfl) dX0_levelled_31 (fun r21 s22 => ?_)
      refine s_astore_nQ O (r := r21) (L' := [(0, .ref o), (1, .ref p13)]) rfl hm (by decide) (fun _ => rfl) dX0_levelled_34 ?_
      refine s_goto O (tgt := 20) dX0_levelled_35 (by decide) ?_
      refine Sim.sub (L' := [(0, .ref o), (1, .ref p13), (2, va_rf r21)]) [1, 2, 0] rfl ?_
      exact Sim.ret (hn _ _)
  · intro b20 s23
    show Sim X (xI) (retC X eI xI) 38 [(0, .ref o), (1, .ref p13)] [] s23 _
    refine s_aload_n O 0 rfl rfl dX0_levelled_38 ?_
    refine s_aload_n O 1 rfl rfl dX0_levelled_39 ?_
    refine x_callV O (enc2 := eI) (ci := 0) (av := [.ref p13]) (rest := []) 1 (fun v0 t0 h0 => mt_X0_comes (xL X) (xG X) hfl hg o p13 _ t0 v0 h0) (lw_V q1389 q1391 qs50 q131 q1392) hv_X0_comes ⟨Nat.le_of_ble_eq_true rfl, Nat.le_of_ble_eq_true rfl⟩ rfl rfl (Nat.le_of_ble_eq_true rfl) dX0_levelled_40 (fun v24 s25 => ?_)
    exact s_ireturn O hr rfl dX0_levelled_43
theorem mt_X0_levelled (l : Launch) (G : XG) (hfl : l.stackTraces = false) (hg : G.2.2.2.2 = zAll G.1.1 G.1.2.2.2 G.2.2.2.1) (o : Nat) (s t : XS) (v : Int32) (h : x0_levelled o s = some (v, t)) : xMet l yX0_levelled (ws_ yX0_levelled cX0_levelled 3 (some .int)) 9 233 G (xI s) [.ref o] (eI v) (xI t) :=
  xMet_of (E := xI) (enc := eI) (by decide +kernel) (Nat.le_of_ble_eq_true rfl) (fun X hl hG O hr hm => by subst hl; subst hG; exact wk_X0_levelled O hfl hg hr hm o s) h
theorem hd_X0_root : yX0_root.cls ≠ "java/lang/invoke/MethodHandle" ∧ yX0_root.cls ≠ "java/lang/invoke/VarHandle" ∧ (parseMethodDescriptor yX0_root.desc).map (fun d => d.parameters.length) = some 0 := by decide +kernel
theorem hv_X0_root : yX0_root.cls = RX0 ∧ yX0_root.cls ≠ "java/lang/invoke/MethodHandle" ∧ yX0_root.cls ≠ "java/lang/invoke/VarHandle" ∧ (parseMethodDescriptor yX0_root.desc).map (fun d => d.parameters.length) = some 0 := ⟨rfl, hd_X0_root⟩
theorem hu_X0_root : yX0_root.name ≠ "<init>" ∧ (parseMethodDescriptor yX0_root.desc).map (fun d => d.parameters.length) = some 0 := ⟨by decide +kernel, hd_X0_root.2.2⟩
set_option maxHeartbeats 4000000 in
set_option maxRecDepth 100000 in
theorem wk_X0_root {X : XC} (O : XOk X cX0_root RX0 9 233) (hfl : (xL X).stackTraces = false) (hg : (xG X).2.2.2.2 = zAll (xG X).1.1 (xG X).1.2.2.2 (xG X).2.2.2.1) (hr : (xMeth X).sig.returnType = (some .int)) (hm : (xC X).maxLocals = 6) (o : Nat) (s : XS) : Sim X xI (retC X eI xI) 0 [(0, .ref o)] [] s (x0_root o s) := by
  have hzz := O.hst
  rw [hg] at hzz
  unfold x0_root
  refine s_aload_n O 0 rfl rfl dX0_root_0 ?_
  refine x_callV O (enc2 := eR) (ci := 0) (av := []) (rest := []) 0 (fun v0 t0 h0 => mt_X0_like (xL X) (xG X) hfl hg o _ t0 v0 h0) (lw_V q1360 q1362 qs49 q131 q1363) hv_X0_like ⟨Nat.le_of_ble_eq_true rfl, Nat.le_of_ble_eq_true rfl⟩ rfl rfl (Nat.le_of_ble_eq_true rfl) dX0_root_1 (fun r1 s2 => ?_)
  refine s_astore_nQ O (r := r1) (L' := [(0, .ref o)]) rfl hm (by decide) (fun _ => rfl) dX0_root_4 ?_
  refine s_aload_n O 1 rfl rfl dX0_root_5 ?_
  refine x_get O (ci := 0) (T := TX0) (N := 20) in_X0 rfl 3 (by decide) q234 (fun _ h => h) dX0_root_6 (fun v0 => ?_)
  refine s_vR (fun r3 => ?_)
  refine s_dr (fun p4 hp5 => ?_)
  subst hp5
  refine x_getN O (ci := 1) (T := TX1) (N := 6) in_X1 rfl 1 (by decide) (zf_q208 hzz) (fun _ h => h) dX0_root_9 (fun v0 => ?_)
  refine s_vR (fun r6 => ?_)
  refine s_dr (fun p7 hp8 => ?_)
  subst hp8
  refine x_callF O (enc2 := eR) (ci := 7) (av := []) (rest := []) 0 (fun v0 t0 h0 => mt_J2_iterator (xL X) (xG X) hfl hg p7 _ t0 v0 h0) (lw_F q1210 q782 q784 q135 q786) (zw_2 hzz) hf_J2_iterator ⟨Nat.le_of_ble_eq_true rfl, Nat.le_of_ble_eq_true rfl⟩ rfl rfl (Nat.le_of_ble_eq_true rfl) dX0_root_12 (fun r9 s10 => ?_)
  refine s_astore_nQ O (r := r9) (L' := [(1, va_rf r1), (0, .ref o)]) rfl hm (by decide) (fun _ => (by generalize r1 = zq0; cases zq0 <;> rfl)) dX0_root_17 ?_
  refine Sim.sub (L' := [(0, .ref o), (1, va_rf r1), (2, va_rf r9)]) [2, 1, 0] rfl ?_
  refine s_while (A := Unit) (B := Unit) (La := fun _ => [(0, .ref o), (1, va_rf r1), (2, va_rf r9)]) (We := fun b18 s39 => xWX X 90 [(0, .ref o), (1, va_rf r1)] [] ((xI) s39)) rfl rfl ?_ ?_
  · intro Cl hn he a18 s11
    unfold x0_root_s18
    refine s_aload_nQ O 2 rfl rfl dX0_root_18 ?_
    refine s_dr (fun p12 hp13 => ?_)
    subst hp13
    refine x_callF O (enc2 := eI) (ci := 8) (av := []) (rest := []) 0 (fun v0 t0 h0 => mt_J14_hasNext (xL X) (xG X) hfl hg p12 _ t0 v0 h0) (lw_F q1212 q811 q813 q152 q815) (zw_7 hzz) hf_J14_hasNext ⟨Nat.le_of_ble_eq_true rfl, Nat.le_of_ble_eq_true rfl⟩ rfl rfl (Nat.le_of_ble_eq_true rfl) dX0_root_19 (fun v14 s15 => ?_)
    refine s_if_eq O (tgt := 90) dX0_root_24 (by decide) ?_ ?_
    · refine Sim.sub (L' := [(0, .ref o), (1, va_rf r1)]) [0, 1] rfl ?_
      exact Sim.ret (he _ _)
    · refine s_aload_n O 2 rfl rfl dX0_root_27 ?_
      refine x_callF O (enc2 := eR) (ci := 8) (av := []) (rest := []) 0 (fun v0 t0 h0 => mt_J14_next (xL X) (xG X) hfl hg p12 _ t0 v0 h0) (lw_F q1214 q820 q822 q152 q824) (zw_8 hzz) hf_J14_next ⟨Nat.le_of_ble_eq_true rfl, Nat.le_of_ble_eq_true rfl⟩ rfl rfl (Nat.le_of_ble_eq_true rfl) dX0_root_28 (fun r16 s17 => ?_)
      refine s_dr (fun p18 hp19 => ?_)
      subst hp19
      refine x_cast O (ci := 5) rfl q945 dX0_root_33 ?_
      refine s_astore_n O (L' := [(3, .ref p18), (0, .ref o), (1, va_rf r1), (2, .ref p12)]) hm (by decide) rfl rfl dX0_root_36 ?_
      refine s_iconst O (x := 4) (by decide) dX0_root_37 ?_
      refine x_newI O q204 dX0_root_38 (fun p20 s21 => ?_)
      refine s_astore O (L' := [(4, .ref p20), (3, .ref p18), (0, .ref o), (1, va_rf r1), (2, .ref p12)]) hm (by decide) rfl dX0_root_40 ?_
      refine s_iconst O (x := 0) (by decide) dX0_root_42 ?_
      refine s_istore O (L' := [(5, .int 0), (4, .ref p20), (3, .ref p18), (0, .ref o), (1, va_rf r1), (2, .ref p12)]) hm (by decide) rfl dX0_root_43 ?_
      refine Sim.sub (L' := [(0, .ref o), (1, va_rf r1), (2, .ref p12), (3, .ref p18), (4, .ref p20), (5, .int 0)]) [3, 4, 5, 2, 1, 0] rfl ?_
      refine s_while (A := Int32) (B := Unit) (La := fun a45 => [(0, .ref o), (1, va_rf r1), (2, .ref p12), (3, .ref p18), (4, .ref p20), (5, .int a45)]) (We := fun b45 s30 => xWX X 73 [(0, .ref o), (1, va_rf r1), (2, .ref p12), (4, .ref p20)] [] ((xI) s30)) rfl rfl ?_ ?_
      · intro Cl hn he a45 s22
        unfold x0_root_s45
        refine s_iload O 5 rfl dX0_root_45 ?_
        refine s_iconst O (x := 4) (by decide) dX0_root_47 ?_
        refine s_icmp_ge O (tgt := 73) dX0_root_48 (by decide) ?_ ?_
        · refine Sim.sub (L' := [(0, .ref o), (1, va_rf r1), (2, .ref p12), (4, .ref p20)]) [0, 1, 2, 4] rfl ?_
          exact Sim.ret (he _ _)
        · refine s_aload O 4 rfl dX0_root_51 ?_
          refine s_iload O 5 rfl dX0_root_53 ?_
          refine s_iconst O (x := 1) (by decide) dX0_root_55 ?_
          refine s_aload_n O 3 rfl rfl dX0_root_56 ?_
          refine x_getN O (ci := 5) (T := TX5) (N := 2) in_X5 rfl 0 (by decide) (zf_q708 hzz) (fun _ h => h) dX0_root_57 (fun v0 => ?_)
          refine s_vR (fun r23 => ?_)
          refine s_iload O 5 rfl dX0_root_60 ?_
          refine s_dr (fun p24 hp25 => ?_)
          subst hp25
          refine x_iald O dX0_root_62 (fun u26 => ?_)
          refine s_callP O (enc2 := eI) (av := [.int 1, .int u26]) (rest := [.int a45, .ref p20]) 2 (fun v0 h0 => mt_J8_min (xL X) (xG X) _ 1 u26 v0 h0) (lw_S q1329 q455 q143 q456) hd_J8_min ⟨Nat.le_of_ble_eq_true rfl, Nat.le_of_ble_eq_true rfl⟩ rfl (Nat.le_of_ble_eq_true rfl) dX0_root_63 (fun v27 => ?_)
          refine x_iast O dX0_root_66 (fun s29 => ?_)
          refine s_iinc O (y := (a45 + 1)) (L' := [(5, .int (a45 + 1)), (0, .ref o), (1, va_rf r1), (2, .ref p12), (3, .ref p18), (4, .ref p20)]) 5 rfl hm (by decide) rfl rfl dX0_root_67 ?_
          refine s_goto O (tgt := 45) dX0_root_70 (by decide) ?_
          refine Sim.sub (L' := [(0, .ref o), (1, va_rf r1), (2, .ref p12), (3, .ref p18), (4, .ref p20), (5, .int (a45 + 1))]) [1, 2, 3, 4, 5, 0] rfl ?_
          exact Sim.ret (hn _ _)
      · intro b45 s30
        show Sim X (xI) Cl 73 [(0, .ref o), (1, va_rf r1), (2, .ref p12), (4, .ref p20)] [] s30 _
        refine s_aload_nQ O 1 rfl rfl dX0_root_73 ?_
        refine x_new O (ci := 5) (T := TX5) (N := 2) (fs := dfX5) in_X5 tyX5 tyX5_ok rfl 2 q945 q701 q151 rfl dfX5_ok dX0_root_74 (fun p31 s32 => ?_)
        refine s_dup O rfl dX0_root_77 ?_
        refine s_aload O 3 rfl dX0_root_78 ?_
        refine x_callI O (enc2 := eU) (av := [.ref p20]) (rest := [.ref p31, va_rf r1]) 1 (fun v0 t0 h0 => mt_X5_init (xL X) (xG X) hfl hg p31 p20 _ t0 v0 h0) q704 q151 q961 q703 rfl hd_X5_init ⟨Nat.le_of_ble_eq_true rfl, Nat.le_of_ble_eq_true rfl⟩ rfl (by generalize r1 = zq0; cases zq0 <;> exact Nat.le_of_ble_eq_true rfl) dX0_root_80 (fun v33 s34 => ?_)
        refine s_dr (fun p35 hp36 => ?_)
        subst hp36
        refine x_callV O (enc2 := eR) (ci := 1) (av := [.ref p31]) (rest := []) 1 (fun v0 t0 h0 => mt_X1_with (xL X) (xG X) hfl hg p35 p31 _ t0 v0 h0) (lw_V q1364 q831 q832 q132 q833) hv_X1_with ⟨Nat.le_of_ble_eq_true rfl, Nat.le_of_ble_eq_true rfl⟩ rfl rfl (Nat.le_of_ble_eq_true rfl) dX0_root_83 (fun r37 s38 => ?_)
        refine s_pop O (va_cat _) dX0_root_86 ?_
        refine s_goto O (tgt := 18) dX0_root_87 (by decide) ?_
        refine Sim.sub (L' := [(0, .ref o), (1, .ref p35), (2, .ref p12)]) [0, 1, 2] rfl ?_
        exact Sim.ret (hn _ _)
  · intro b18 s39
    show Sim X (xI) (retC X eI xI) 90 [(0, .ref o), (1, va_rf r1)] [] s39 _
    refine s_aload_n O 0 rfl rfl dX0_root_90 ?_
    refine s_aload_nQ O 1 rfl rfl dX0_root_91 ?_
    refine s_dr (fun p40 hp41 => ?_)
    subst hp41
    refine x_callV O (enc2 := eI) (ci := 0) (av := [.ref p40]) (rest := []) 1 (fun v0 t0 h0 => mt_X0_comes (xL X) (xG X) hfl hg o p40 _ t0 v0 h0) (lw_V q1389 q1391 qs50 q131 q1392) hv_X0_comes ⟨Nat.le_of_ble_eq_true rfl, Nat.le_of_ble_eq_true rfl⟩ rfl rfl (Nat.le_of_ble_eq_true rfl) dX0_root_92 (fun v42 s43 => ?_)
    exact s_ireturn O hr rfl dX0_root_95
theorem mt_X0_root (l : Launch) (G : XG) (hfl : l.stackTraces = false) (hg : G.2.2.2.2 = zAll G.1.1 G.1.2.2.2 G.2.2.2.1) (o : Nat) (s t : XS) (v : Int32) (h : x0_root o s = some (v, t)) : xMet l yX0_root (ws_ yX0_root cX0_root 6 (some .int)) 9 233 G (xI s) [.ref o] (eI v) (xI t) :=
  xMet_of (E := xI) (enc := eI) (by decide +kernel) (Nat.le_of_ble_eq_true rfl) (fun X hl hG O hr hm => by subst hl; subst hG; exact wk_X0_root O hfl hg hr hm o s) h
theorem hd_X0_keep : yX0_keep.cls ≠ "java/lang/invoke/MethodHandle" ∧ yX0_keep.cls ≠ "java/lang/invoke/VarHandle" ∧ (parseMethodDescriptor yX0_keep.desc).map (fun d => d.parameters.length) = some 1 := by decide +kernel
theorem hv_X0_keep : yX0_keep.cls = RX0 ∧ yX0_keep.cls ≠ "java/lang/invoke/MethodHandle" ∧ yX0_keep.cls ≠ "java/lang/invoke/VarHandle" ∧ (parseMethodDescriptor yX0_keep.desc).map (fun d => d.parameters.length) = some 1 := ⟨rfl, hd_X0_keep⟩
theorem hu_X0_keep : yX0_keep.name ≠ "<init>" ∧ (parseMethodDescriptor yX0_keep.desc).map (fun d => d.parameters.length) = some 1 := ⟨by decide +kernel, hd_X0_keep.2.2⟩
set_option maxHeartbeats 4000000 in
set_option maxRecDepth 100000 in
theorem wk_X0_keep {X : XC} (O : XOk X cX0_keep RX0 1 25) (hfl : (xL X).stackTraces = false) (hg : (xG X).2.2.2.2 = zAll (xG X).1.1 (xG X).1.2.2.2 (xG X).2.2.2.1) (hr : (xMeth X).sig.returnType = (some .int)) (hm : (xC X).maxLocals = 2) (o : Nat) (x1 : Int32) (s : XS) : Sim X xI (retC X eI xI) 0 [(0, .ref o), (1, .int x1)] [] s (x0_keep o x1 s) := by
  have hzz := O.hst
  rw [hg] at hzz
  unfold x0_keep
  refine s_iload_n O 1 rfl rfl dX0_keep_0 ?_
  refine s_i2l O dX0_keep_1 ?_
  refine s_lconst O (x := 0) (by decide) dX0_keep_2 ?_
  refine s_ldc2 O (x := 2) q1401 dX0_keep_3 ?_
  refine s_callP O (enc2 := eI) (av := [.long x1.toInt64, .long 0, .long 2]) (rest := []) 3 (fun v0 h0 => mt_X0_isIn (xL X) (xG X) _ x1.toInt64 0 2 v0 h0) (lw_S q317 q318 q131 q319) hd_X0_isIn ⟨Nat.le_of_ble_eq_true rfl, Nat.le_of_ble_eq_true rfl⟩ rfl (Nat.le_of_ble_eq_true rfl) dX0_keep_6 (fun v1 => ?_)
  refine s_if_ne O (tgt := 14) dX0_keep_9 (by decide) ?_ ?_
  · refine s_aload_n O 0 rfl rfl dX0_keep_14 ?_
    refine x_get O (ci := 0) (T := TX0) (N := 20) in_X0 rfl 19 (by decide) q250 (fun _ h => h) dX0_keep_15 (fun v0 => ?_)
    refine s_vR (fun r3 => ?_)
    refine s_iload_n O 1 rfl rfl dX0_keep_18 ?_
    refine s_aload_n O 0 rfl rfl dX0_keep_19 ?_
    refine x_get O (ci := 0) (T := TX0) (N := 20) in_X0 rfl 3 (by decide) q234 (fun _ h => h) dX0_keep_20 (fun v0 => ?_)
    refine s_vR (fun r4 => ?_)
    refine s_dr (fun p5 hp6 => ?_)
    subst hp6
    refine x_aast O (t := 5) (r := r4) rfl (zcast5 O.hK) dX0_keep_23 (fun s7 => ?_)
    refine s_aload_n O 0 rfl rfl dX0_keep_24 ?_
    refine x_get O (ci := 0) (T := TX0) (N := 20) in_X0 rfl 3 (by decide) q234 (fun _ h => h) dX0_keep_25 (fun v0 => ?_)
    refine s_vR (fun r8 => ?_)
    refine s_dr (fun p9 hp10 => ?_)
    subst hp10
    refine x_getN O (ci := 1) (T := TX1) (N := 6) in_X1 rfl 1 (by decide) (zf_q208 hzz) (fun _ h => h) dX0_keep_28 (fun v0 => ?_)
    refine s_vR (fun r11 => ?_)
    refine s_dr (fun p12 hp13 => ?_)
    subst hp13
    refine x_callF O (enc2 := eI) (ci := 7) (av := []) (rest := []) 0 (fun v0 t0 h0 => mt_J2_size (xL X) (xG X) hfl hg p12 _ t0 v0 h0) (lw_F q897 q695 q697 q135 q699) (zw_0 hzz) hf_J2_size ⟨Nat.le_of_ble_eq_true rfl, Nat.le_of_ble_eq_true rfl⟩ rfl rfl (Nat.le_of_ble_eq_true rfl) dX0_keep_31 (fun v14 s15 => ?_)
    exact s_ireturn O hr rfl dX0_keep_36
  · refine s_iconst O (x := (-1)) (by decide) dX0_keep_12 ?_
    exact s_ireturn O hr rfl dX0_keep_13
theorem mt_X0_keep (l : Launch) (G : XG) (hfl : l.stackTraces = false) (hg : G.2.2.2.2 = zAll G.1.1 G.1.2.2.2 G.2.2.2.1) (o : Nat) (x1 : Int32) (s t : XS) (v : Int32) (h : x0_keep o x1 s = some (v, t)) : xMet l yX0_keep (ws_ yX0_keep cX0_keep 2 (some .int)) 1 25 G (xI s) [.ref o, .int x1] (eI v) (xI t) :=
  xMet_of (E := xI) (enc := eI) (by decide +kernel) (Nat.le_of_ble_eq_true rfl) (fun X hl hG O hr hm => by subst hl; subst hG; exact wk_X0_keep O hfl hg hr hm o x1 s) h
theorem hd_X0_isKept : yX0_isKept.cls ≠ "java/lang/invoke/MethodHandle" ∧ yX0_isKept.cls ≠ "java/lang/invoke/VarHandle" ∧ (parseMethodDescriptor yX0_isKept.desc).map (fun d => d.parameters.length) = some 1 := by decide +kernel
theorem hv_X0_isKept : yX0_isKept.cls = RX0 ∧ yX0_isKept.cls ≠ "java/lang/invoke/MethodHandle" ∧ yX0_isKept.cls ≠ "java/lang/invoke/VarHandle" ∧ (parseMethodDescriptor yX0_isKept.desc).map (fun d => d.parameters.length) = some 1 := ⟨rfl, hd_X0_isKept⟩
theorem hu_X0_isKept : yX0_isKept.name ≠ "<init>" ∧ (parseMethodDescriptor yX0_isKept.desc).map (fun d => d.parameters.length) = some 1 := ⟨by decide +kernel, hd_X0_isKept.2.2⟩
set_option maxHeartbeats 4000000 in
set_option maxRecDepth 100000 in
theorem wk_X0_isKept {X : XC} (O : XOk X cX0_isKept RX0 1 25) (hfl : (xL X).stackTraces = false) (hg : (xG X).2.2.2.2 = zAll (xG X).1.1 (xG X).1.2.2.2 (xG X).2.2.2.1) (hr : (xMeth X).sig.returnType = (some .boolean)) (hm : (xC X).maxLocals = 2) (o : Nat) (x1 : Int32) (s : XS) : Sim X xI (retC X eI xI) 0 [(0, .ref o), (1, .int x1)] [] s (x0_isKept o x1 s) := by
  have hzz := O.hst
  rw [hg] at hzz
  unfold x0_isKept
  refine s_iload_n O 1 rfl rfl dX0_isKept_0 ?_
  refine s_i2l O dX0_isKept_1 ?_
  refine s_lconst O (x := 0) (by decide) dX0_isKept_2 ?_
  refine s_ldc2 O (x := 2) q1401 dX0_isKept_3 ?_
  refine s_callP O (enc2 := eI) (av := [.long x1.toInt64, .long 0, .long 2]) (rest := []) 3 (fun v0 h0 => mt_X0_isIn (xL X) (xG X) _ x1.toInt64 0 2 v0 h0) (lw_S q317 q318 q131 q319) hd_X0_isIn ⟨Nat.le_of_ble_eq_true rfl, Nat.le_of_ble_eq_true rfl⟩ rfl (Nat.le_of_ble_eq_true rfl) dX0_isKept_6 (fun v1 => ?_)
  refine s_if_eq O (tgt := 44) dX0_isKept_9 (by decide) ?_ ?_
  · refine s_iconst O (x := 0) (by decide) dX0_isKept_44 ?_
    exact s_zreturnK O hr rfl rfl dX0_isKept_45
  · refine s_aload_n O 0 rfl rfl dX0_isKept_12 ?_
    refine x_get O (ci := 0) (T := TX0) (N := 20) in_X0 rfl 19 (by decide) q250 (fun _ h => h) dX0_isKept_13 (fun v0 => ?_)
    refine s_vR (fun r3 => ?_)
    refine s_iload_n O 1 rfl rfl dX0_isKept_16 ?_
    refine s_dr (fun p4 hp5 => ?_)
    subst hp5
    refine x_aald O (t := 5) rfl rfl dX0_isKept_17 (fun r6 => ?_)
    refine s_ifnull O (tgt := 44) dX0_isKept_18 (by decide) (fun hr0 => ?_) (fun p7 hr0 => ?_)
    · subst hr0
      refine s_iconst O (x := 0) (by decide) dX0_isKept_44 ?_
      exact s_zreturnK O hr rfl rfl dX0_isKept_45
    · subst hr0
      refine s_aload_n O 0 rfl rfl dX0_isKept_21 ?_
      refine x_get O (ci := 0) (T := TX0) (N := 20) in_X0 rfl 19 (by decide) q250 (fun _ h => h) dX0_isKept_22 (fun v0 => ?_)
      refine s_vR (fun r8 => ?_)
      refine s_iload_n O 1 rfl rfl dX0_isKept_25 ?_
      refine s_dr (fun p9 hp10 => ?_)
      subst hp10
      refine x_aald O (t := 5) rfl rfl dX0_isKept_26 (fun r11 => ?_)
      refine s_dr (fun p12 hp13 => ?_)
      subst hp13
      refine x_getN O (ci := 1) (T := TX1) (N := 6) in_X1 rfl 0 (by decide) (zf_q206 hzz) (fun _ h => h) dX0_isKept_27 (fun v0 => ?_)
      refine s_vI (fun u14 => ?_)
      refine s_aload_n O 0 rfl rfl dX0_isKept_30 ?_
      refine x_get O (ci := 0) (T := TX0) (N := 20) in_X0 rfl 3 (by decide) q234 (fun _ h => h) dX0_isKept_31 (fun v0 => ?_)
      refine s_vR (fun r15 => ?_)
      refine s_dr (fun p16 hp17 => ?_)
      subst hp17
      refine x_getN O (ci := 1) (T := TX1) (N := 6) in_X1 rfl 0 (by decide) (zf_q206 hzz) (fun _ h => h) dX0_isKept_34 (fun v0 => ?_)
      refine s_vI (fun u18 => ?_)
      refine s_icmp_ne O (tgt := 44) dX0_isKept_37 (by decide) ?_ ?_
      · refine s_iconst O (x := 0) (by decide) dX0_isKept_44 ?_
        exact s_zreturnK O hr rfl rfl dX0_isKept_45
      · refine s_iconst O (x := 1) (by decide) dX0_isKept_40 ?_
        refine s_goto O (tgt := 45) dX0_isKept_41 (by decide) ?_
        exact s_zreturnK O hr rfl rfl dX0_isKept_45
theorem mt_X0_isKept (l : Launch) (G : XG) (hfl : l.stackTraces = false) (hg : G.2.2.2.2 = zAll G.1.1 G.1.2.2.2 G.2.2.2.1) (o : Nat) (x1 : Int32) (s t : XS) (v : Int32) (h : x0_isKept o x1 s = some (v, t)) : xMet l yX0_isKept (ws_ yX0_isKept cX0_isKept 2 (some .boolean)) 1 25 G (xI s) [.ref o, .int x1] (eI v) (xI t) :=
  xMet_of (E := xI) (enc := eI) (by decide +kernel) (Nat.le_of_ble_eq_true rfl) (fun X hl hG O hr hm => by subst hl; subst hG; exact wk_X0_isKept O hfl hg hr hm o x1 s) h
theorem hd_X0_hasAll : yX0_hasAll.cls ≠ "java/lang/invoke/MethodHandle" ∧ yX0_hasAll.cls ≠ "java/lang/invoke/VarHandle" ∧ (parseMethodDescriptor yX0_hasAll.desc).map (fun d => d.parameters.length) = some 2 := by decide +kernel
theorem hv_X0_hasAll : yX0_hasAll.cls = RX0 ∧ yX0_hasAll.cls ≠ "java/lang/invoke/MethodHandle" ∧ yX0_hasAll.cls ≠ "java/lang/invoke/VarHandle" ∧ (parseMethodDescriptor yX0_hasAll.desc).map (fun d => d.parameters.length) = some 2 := ⟨rfl, hd_X0_hasAll⟩
theorem hu_X0_hasAll : yX0_hasAll.name ≠ "<init>" ∧ (parseMethodDescriptor yX0_hasAll.desc).map (fun d => d.parameters.length) = some 2 := ⟨by decide +kernel, hd_X0_hasAll.2.2⟩
set_option maxHeartbeats 4000000 in
set_option maxRecDepth 100000 in
theorem wk_X0_hasAll {X : XC} (O : XOk X cX0_hasAll RX0 4 86) (hfl : (xL X).stackTraces = false) (hg : (xG X).2.2.2.2 = zAll (xG X).1.1 (xG X).1.2.2.2 (xG X).2.2.2.1) (hr : (xMeth X).sig.returnType = (some .boolean)) (hm : (xC X).maxLocals = 4) (x0 : Nat) (x1 : Nat) (s : XS) : Sim X xI (retC X eI xI) 0 [(0, .ref x0), (1, .ref x1)] [] s (x0_hasAll x0 x1 s) := by
  have hzz := O.hst
  rw [hg] at hzz
  unfold x0_hasAll
  refine s_aload_n O 1 rfl rfl dX0_hasAll_0 ?_
  refine x_getN O (ci := 1) (T := TX1) (N := 6) in_X1 rfl 1 (by decide) (zf_q208 hzz) (fun _ h => h) dX0_hasAll_1 (fun v0 => ?_)
  refine s_vR (fun r1 => ?_)
  refine s_dr (fun p2 hp3 => ?_)
  subst hp3
  refine x_callF O (enc2 := eR) (ci := 7) (av := []) (rest := []) 0 (fun v0 t0 h0 => mt_J2_iterator (xL X) (xG X) hfl hg p2 _ t0 v0 h0) (lw_F q1210 q782 q784 q135 q786) (zw_2 hzz) hf_J2_iterator ⟨Nat.le_of_ble_eq_true rfl, Nat.le_of_ble_eq_true rfl⟩ rfl rfl (Nat.le_of_ble_eq_true rfl) dX0_hasAll_4 (fun r4 s5 => ?_)
  refine s_astore_nQ O (r := r4) (L' := [(0, .ref x0), (1, .ref x1)]) rfl hm (by decide) (fun _ => rfl) dX0_hasAll_9 ?_
  refine Sim.sub (L' := [(0, .ref x0), (2, va_rf r4)]) [1, 0] rfl ?_
  refine s_while (A := Unit) (B := (Unit) ⊕ (Unit)) (La := fun _ => [(0, .ref x0), (2, va_rf r4)]) (We := fun bb0 s20 => match bb0 with | .inl b10 => xWX X 40 [] [] ((xI) s20) | .inr b10 => xWX X 45 [] [] ((xI) s20)) rfl rfl ?_ ?_
  · intro Cl hn he a10 s6
    unfold x0_hasAll_s10
    refine s_aload_nQ O 1 rfl rfl dX0_hasAll_10 ?_
    refine s_dr (fun p7 hp8 => ?_)
    subst hp8
    refine x_callF O (enc2 := eI) (ci := 8) (av := []) (rest := []) 0 (fun v0 t0 h0 => mt_J14_hasNext (xL X) (xG X) hfl hg p7 _ t0 v0 h0) (lw_F q1212 q811 q813 q152 q815) (zw_7 hzz) hf_J14_hasNext ⟨Nat.le_of_ble_eq_true rfl, Nat.le_of_ble_eq_true rfl⟩ rfl rfl (Nat.le_of_ble_eq_true rfl) dX0_hasAll_11 (fun v9 s10 => ?_)
    refine s_if_eq O (tgt := 45) dX0_hasAll_16 (by decide) ?_ ?_
    · refine Sim.sub (L' := []) [] rfl ?_
      exact Sim.ret (he _ _)
    · refine s_aload_n O 1 rfl rfl dX0_hasAll_19 ?_
      refine x_callF O (enc2 := eR) (ci := 8) (av := []) (rest := []) 0 (fun v0 t0 h0 => mt_J14_next (xL X) (xG X) hfl hg p7 _ t0 v0 h0) (lw_F q1214 q820 q822 q152 q824) (zw_8 hzz) hf_J14_next ⟨Nat.le_of_ble_eq_true rfl, Nat.le_of_ble_eq_true rfl⟩ rfl rfl (Nat.le_of_ble_eq_true rfl) dX0_hasAll_20 (fun r11 s12 => ?_)
      refine s_dr (fun p13 hp14 => ?_)
      subst hp14
      refine x_cast O (ci := 5) rfl q945 dX0_hasAll_25 ?_
      refine s_astore_n O (L' := [(3, .ref p13), (0, .ref x0), (2, .ref p7)]) hm (by decide) rfl rfl dX0_hasAll_28 ?_
      refine s_aload_n O 1 rfl rfl dX0_hasAll_29 ?_
      refine s_aload_n O 0 rfl rfl dX0_hasAll_30 ?_
      refine x_getN O (ci := 5) (T := TX5) (N := 2) in_X5 rfl 0 (by decide) (zf_q708 hzz) (fun _ h => h) dX0_hasAll_31 (fun v0 => ?_)
      refine s_vR (fun r15 => ?_)
      refine s_dr (fun p16 hp17 => ?_)
      subst hp17
      refine x_callV O (enc2 := eI) (ci := 1) (av := [.ref p16]) (rest := []) 1 (fun v0 t0 h0 => mt_X1_covers (xL X) (xG X) hfl hg x0 p16 _ t0 v0 h0) (lw_V q979 q835 q836 q132 q837) hv_X1_covers ⟨Nat.le_of_ble_eq_true rfl, Nat.le_of_ble_eq_true rfl⟩ rfl rfl (Nat.le_of_ble_eq_true rfl) dX0_hasAll_34 (fun v18 s19 => ?_)
      refine s_if_ne O (tgt := 42) dX0_hasAll_37 (by decide) ?_ ?_
      · refine s_goto O (tgt := 10) dX0_hasAll_42 (by decide) ?_
        refine Sim.sub (L' := [(0, .ref x0), (2, .ref p7)]) [1, 2] rfl ?_
        exact Sim.ret (hn _ _)
      · refine Sim.sub (L' := []) [] rfl ?_
        exact Sim.ret (he _ _)
  · intro bb0 s20
    rcases bb0 with b10 | b10
    · show Sim X (xI) (retC X eI xI) 40 [] [] s20 _
      dsimp only
      refine s_iconst O (x := 0) (by decide) dX0_hasAll_40 ?_
      exact s_zreturnK O hr rfl rfl dX0_hasAll_41
    · show Sim X (xI) (retC X eI xI) 45 [] [] s20 _
      dsimp only
      refine s_iconst O (x := 1) (by decide) dX0_hasAll_45 ?_
      exact s_zreturnK O hr rfl rfl dX0_hasAll_46
theorem mt_X0_hasAll (l : Launch) (G : XG) (hfl : l.stackTraces = false) (hg : G.2.2.2.2 = zAll G.1.1 G.1.2.2.2 G.2.2.2.1) (x0 : Nat) (x1 : Nat) (s t : XS) (v : Int32) (h : x0_hasAll x0 x1 s = some (v, t)) : xMet l yX0_hasAll (ws_ yX0_hasAll cX0_hasAll 4 (some .boolean)) 4 86 G (xI s) [.ref x0, .ref x1] (eI v) (xI t) :=
  xMet_of (E := xI) (enc := eI) (by decide +kernel) (Nat.le_of_ble_eq_true rfl) (fun X hl hG O hr hm => by subst hl; subst hG; exact wk_X0_hasAll O hfl hg hr hm x0 x1 s) h
theorem hd_X0_within : yX0_within.cls ≠ "java/lang/invoke/MethodHandle" ∧ yX0_within.cls ≠ "java/lang/invoke/VarHandle" ∧ (parseMethodDescriptor yX0_within.desc).map (fun d => d.parameters.length) = some 1 := by decide +kernel
theorem hv_X0_within : yX0_within.cls = RX0 ∧ yX0_within.cls ≠ "java/lang/invoke/MethodHandle" ∧ yX0_within.cls ≠ "java/lang/invoke/VarHandle" ∧ (parseMethodDescriptor yX0_within.desc).map (fun d => d.parameters.length) = some 1 := ⟨rfl, hd_X0_within⟩
theorem hu_X0_within : yX0_within.name ≠ "<init>" ∧ (parseMethodDescriptor yX0_within.desc).map (fun d => d.parameters.length) = some 1 := ⟨by decide +kernel, hd_X0_within.2.2⟩
set_option maxHeartbeats 4000000 in
set_option maxRecDepth 100000 in
theorem wk_X0_within {X : XC} (O : XOk X cX0_within RX0 5 109) (hfl : (xL X).stackTraces = false) (hg : (xG X).2.2.2.2 = zAll (xG X).1.1 (xG X).1.2.2.2 (xG X).2.2.2.1) (hr : (xMeth X).sig.returnType = (some .int)) (hm : (xC X).maxLocals = 2) (o : Nat) (x1 : Int32) (s : XS) : Sim X xI (retC X eI xI) 0 [(0, .ref o), (1, .int x1)] [] s (x0_within o x1 s) := by
  have hzz := O.hst
  rw [hg] at hzz
  unfold x0_within
  refine s_aload_n O 0 rfl rfl dX0_within_0 ?_
  refine s_iload_n O 1 rfl rfl dX0_within_1 ?_
  refine x_callV O (enc2 := eI) (ci := 0) (av := [.int x1]) (rest := []) 1 (fun v0 t0 h0 => mt_X0_isKept (xL X) (xG X) hfl hg o x1 _ t0 v0 h0) (lw_V q1406 q1408 qs51 q131 q1409) hv_X0_isKept ⟨Nat.le_of_ble_eq_true rfl, Nat.le_of_ble_eq_true rfl⟩ rfl rfl (Nat.le_of_ble_eq_true rfl) dX0_within_2 (fun v1 s2 => ?_)
  refine s_if_eq O (tgt := 46) dX0_within_5 (by decide) ?_ ?_
  · refine s_iconst O (x := (-1)) (by decide) dX0_within_46 ?_
    exact s_ireturn O hr rfl dX0_within_47
  · refine s_aload_n O 0 rfl rfl dX0_within_8 ?_
    refine x_get O (ci := 0) (T := TX0) (N := 20) in_X0 rfl 19 (by decide) q250 (fun _ h => h) dX0_within_9 (fun v0 => ?_)
    refine s_vR (fun r3 => ?_)
    refine s_iload_n O 1 rfl rfl dX0_within_12 ?_
    refine s_dr (fun p4 hp5 => ?_)
    subst hp5
    refine x_aald O (t := 5) rfl rfl dX0_within_13 (fun r6 => ?_)
    refine s_aload_n O 0 rfl rfl dX0_within_14 ?_
    refine x_get O (ci := 0) (T := TX0) (N := 20) in_X0 rfl 3 (by decide) q234 (fun _ h => h) dX0_within_15 (fun v0 => ?_)
    refine s_vR (fun r7 => ?_)
    refine s_dr (fun p8 hp9 => ?_)
    subst hp9
    refine s_dr (fun p10 hp11 => ?_)
    subst hp11
    refine x_callS O (enc2 := eI) (av := [.ref p8, .ref p10]) (rest := []) 2 (fun v0 t0 h0 => mt_X0_hasAll (xL X) (xG X) hfl hg p8 p10 _ t0 v0 h0) (lw_S q1410 q1411 q131 q1412) hd_X0_hasAll ⟨Nat.le_of_ble_eq_true rfl, Nat.le_of_ble_eq_true rfl⟩ rfl (Nat.le_of_ble_eq_true rfl) dX0_within_18 (fun v12 s13 => ?_)
    refine s_callP O (enc2 := eI) (av := [.int v12]) (rest := []) 1 (fun v0 h0 => mt_X0_flag (xL X) (xG X) _ v12 v0 h0) (lw_S q913 q914 q131 q915) hd_X0_flag ⟨Nat.le_of_ble_eq_true rfl, Nat.le_of_ble_eq_true rfl⟩ rfl (Nat.le_of_ble_eq_true rfl) dX0_within_21 (fun v14 => ?_)
    refine s_iconst O (x := 2) (by decide) dX0_within_24 ?_
    refine s_aload_n O 0 rfl rfl dX0_within_25 ?_
    refine x_get O (ci := 0) (T := TX0) (N := 20) in_X0 rfl 3 (by decide) q234 (fun _ h => h) dX0_within_26 (fun v0 => ?_)
    refine s_vR (fun r16 => ?_)
    refine s_aload_n O 0 rfl rfl dX0_within_29 ?_
    refine x_get O (ci := 0) (T := TX0) (N := 20) in_X0 rfl 19 (by decide) q250 (fun _ h => h) dX0_within_30 (fun v0 => ?_)
    refine s_vR (fun r17 => ?_)
    refine s_iload_n O 1 rfl rfl dX0_within_33 ?_
    refine s_dr (fun p18 hp19 => ?_)
    subst hp19
    refine x_aald O (t := 5) rfl rfl dX0_within_34 (fun r20 => ?_)
    refine s_dr (fun p21 hp22 => ?_)
    subst hp22
    refine s_dr (fun p23 hp24 => ?_)
    subst hp24
    refine x_callS O (enc2 := eI) (av := [.ref p21, .ref p23]) (rest := [.int 2, .int v14]) 2 (fun v0 t0 h0 => mt_X0_hasAll (xL X) (xG X) hfl hg p21 p23 _ t0 v0 h0) (lw_S q1410 q1411 q131 q1412) hd_X0_hasAll ⟨Nat.le_of_ble_eq_true rfl, Nat.le_of_ble_eq_true rfl⟩ rfl (Nat.le_of_ble_eq_true rfl) dX0_within_35 (fun v25 s26 => ?_)
    refine s_callP O (enc2 := eI) (av := [.int v25]) (rest := [.int 2, .int v14]) 1 (fun v0 h0 => mt_X0_flag (xL X) (xG X) _ v25 v0 h0) (lw_S q913 q914 q131 q915) hd_X0_flag ⟨Nat.le_of_ble_eq_true rfl, Nat.le_of_ble_eq_true rfl⟩ rfl (Nat.le_of_ble_eq_true rfl) dX0_within_38 (fun v27 => ?_)
    refine s_imul O dX0_within_41 ?_
    refine s_iadd O dX0_within_42 ?_
    refine s_goto O (tgt := 47) dX0_within_43 (by decide) ?_
    exact s_ireturn O hr rfl dX0_within_47
theorem mt_X0_within (l : Launch) (G : XG) (hfl : l.stackTraces = false) (hg : G.2.2.2.2 = zAll G.1.1 G.1.2.2.2 G.2.2.2.1) (o : Nat) (x1 : Int32) (s t : XS) (v : Int32) (h : x0_within o x1 s = some (v, t)) : xMet l yX0_within (ws_ yX0_within cX0_within 2 (some .int)) 5 109 G (xI s) [.ref o, .int x1] (eI v) (xI t) :=
  xMet_of (E := xI) (enc := eI) (by decide +kernel) (Nat.le_of_ble_eq_true rfl) (fun X hl hG O hr hm => by subst hl; subst hG; exact wk_X0_within O hfl hg hr hm o x1 s) h
theorem hd_X0_mix : yX0_mix.cls ≠ "java/lang/invoke/MethodHandle" ∧ yX0_mix.cls ≠ "java/lang/invoke/VarHandle" ∧ (parseMethodDescriptor yX0_mix.desc).map (fun d => d.parameters.length) = some 2 := by decide +kernel
theorem hv_X0_mix : yX0_mix.cls = RX0 ∧ yX0_mix.cls ≠ "java/lang/invoke/MethodHandle" ∧ yX0_mix.cls ≠ "java/lang/invoke/VarHandle" ∧ (parseMethodDescriptor yX0_mix.desc).map (fun d => d.parameters.length) = some 2 := ⟨rfl, hd_X0_mix⟩
theorem hu_X0_mix : yX0_mix.name ≠ "<init>" ∧ (parseMethodDescriptor yX0_mix.desc).map (fun d => d.parameters.length) = some 2 := ⟨by decide +kernel, hd_X0_mix.2.2⟩
set_option maxHeartbeats 4000000 in
set_option maxRecDepth 100000 in
theorem wk_X0_mix {X : XC} (O : XOk X cX0_mix RX0 9 233) (hfl : (xL X).stackTraces = false) (hg : (xG X).2.2.2.2 = zAll (xG X).1.1 (xG X).1.2.2.2 (xG X).2.2.2.1) (hr : (xMeth X).sig.returnType = (some .int)) (hm : (xC X).maxLocals = 4) (o : Nat) (x1 : Int32) (x2 : Int32) (s : XS) : Sim X xI (retC X eI xI) 0 [(0, .ref o), (1, .int x1), (2, .int x2)] [] s (x0_mix o x1 x2 s) := by
  have hzz := O.hst
  rw [hg] at hzz
  unfold x0_mix
  refine s_aload_n O 0 rfl rfl dX0_mix_0 ?_
  refine s_iload_n O 1 rfl rfl dX0_mix_1 ?_
  refine x_callV O (enc2 := eI) (ci := 0) (av := [.int x1]) (rest := []) 1 (fun v0 t0 h0 => mt_X0_isKept (xL X) (xG X) hfl hg o x1 _ t0 v0 h0) (lw_V q1406 q1408 qs51 q131 q1409) hv_X0_isKept ⟨Nat.le_of_ble_eq_true rfl, Nat.le_of_ble_eq_true rfl⟩ rfl rfl (Nat.le_of_ble_eq_true rfl) dX0_mix_2 (fun v1 s2 => ?_)
  refine s_if_eq O (tgt := 20) dX0_mix_5 (by decide) ?_ ?_
  · refine s_aload_n O 0 rfl rfl dX0_mix_20 ?_
    refine s_iconst O (x := 2) (by decide) dX0_mix_21 ?_
    refine x_callV O (enc2 := eI) (ci := 0) (av := [.int 2]) (rest := []) 1 (fun v0 t0 h0 => mt_X0_refused (xL X) (xG X) hfl hg o 2 _ t0 v0 h0) (lw_V q296 q298 qs0 q131 q299) hv_X0_refused ⟨Nat.le_of_ble_eq_true rfl, Nat.le_of_ble_eq_true rfl⟩ rfl rfl (Nat.le_of_ble_eq_true rfl) dX0_mix_22 (fun v3 s4 => ?_)
    exact s_ireturn O hr rfl dX0_mix_25
  · refine s_iload_n O 2 rfl rfl dX0_mix_8 ?_
    refine s_i2l O dX0_mix_9 ?_
    refine s_lconst O (x := 0) (by decide) dX0_mix_10 ?_
    refine s_ldc2 O (x := 2) q1401 dX0_mix_11 ?_
    refine s_callP O (enc2 := eI) (av := [.long x2.toInt64, .long 0, .long 2]) (rest := []) 3 (fun v0 h0 => mt_X0_isIn (xL X) (xG X) _ x2.toInt64 0 2 v0 h0) (lw_S q317 q318 q131 q319) hd_X0_isIn ⟨Nat.le_of_ble_eq_true rfl, Nat.le_of_ble_eq_true rfl⟩ rfl (Nat.le_of_ble_eq_true rfl) dX0_mix_14 (fun v5 => ?_)
    refine s_if_ne O (tgt := 26) dX0_mix_17 (by decide) ?_ ?_
    · exact Sim.none
    · refine s_aload_n O 0 rfl rfl dX0_mix_20 ?_
      refine s_iconst O (x := 2) (by decide) dX0_mix_21 ?_
      refine x_callV O (enc2 := eI) (ci := 0) (av := [.int 2]) (rest := []) 1 (fun v0 t0 h0 => mt_X0_refused (xL X) (xG X) hfl hg o 2 _ t0 v0 h0) (lw_V q296 q298 qs0 q131 q299) hv_X0_refused ⟨Nat.le_of_ble_eq_true rfl, Nat.le_of_ble_eq_true rfl⟩ rfl rfl (Nat.le_of_ble_eq_true rfl) dX0_mix_22 (fun v36 s37 => ?_)
      exact s_ireturn O hr rfl dX0_mix_25
theorem mt_X0_mix (l : Launch) (G : XG) (hfl : l.stackTraces = false) (hg : G.2.2.2.2 = zAll G.1.1 G.1.2.2.2 G.2.2.2.1) (o : Nat) (x1 : Int32) (x2 : Int32) (s t : XS) (v : Int32) (h : x0_mix o x1 x2 s = some (v, t)) : xMet l yX0_mix (ws_ yX0_mix cX0_mix 4 (some .int)) 9 233 G (xI s) [.ref o, .int x1, .int x2] (eI v) (xI t) :=
  xMet_of (E := xI) (enc := eI) (by decide +kernel) (Nat.le_of_ble_eq_true rfl) (fun X hl hG O hr hm => by subst hl; subst hG; exact wk_X0_mix O hfl hg hr hm o x1 x2 s) h
theorem hd_X0_least : yX0_least.cls ≠ "java/lang/invoke/MethodHandle" ∧ yX0_least.cls ≠ "java/lang/invoke/VarHandle" ∧ (parseMethodDescriptor yX0_least.desc).map (fun d => d.parameters.length) = some 2 := by decide +kernel
theorem hv_X0_least : yX0_least.cls = RX0 ∧ yX0_least.cls ≠ "java/lang/invoke/MethodHandle" ∧ yX0_least.cls ≠ "java/lang/invoke/VarHandle" ∧ (parseMethodDescriptor yX0_least.desc).map (fun d => d.parameters.length) = some 2 := ⟨rfl, hd_X0_least⟩
theorem hu_X0_least : yX0_least.name ≠ "<init>" ∧ (parseMethodDescriptor yX0_least.desc).map (fun d => d.parameters.length) = some 2 := ⟨by decide +kernel, hd_X0_least.2.2⟩
set_option maxHeartbeats 4000000 in
set_option maxRecDepth 100000 in
theorem wk_X0_least {X : XC} (O : XOk X cX0_least RX0 2 42) (hfl : (xL X).stackTraces = false) (hg : (xG X).2.2.2.2 = zAll (xG X).1.1 (xG X).1.2.2.2 (xG X).2.2.2.1) (hr : (xMeth X).sig.returnType = (some (.object "QuotientRows$Mono"))) (hm : (xC X).maxLocals = 2) (x0 : Nat) (x1 : Nat) (s : XS) : Sim X xI (retC X eR xI) 0 [(0, .ref x0), (1, .ref x1)] [] s (x0_least x0 x1 s) := by
  have hzz := O.hst
  rw [hg] at hzz
  unfold x0_least
  refine x_new O (ci := 5) (T := TX5) (N := 2) (fs := dfX5) in_X5 tyX5 tyX5_ok rfl 2 q945 q701 q151 rfl dfX5_ok dX0_least_0 (fun p1 s2 => ?_)
  refine s_dup O rfl dX0_least_3 ?_
  refine s_iconst O (x := 4) (by decide) dX0_least_4 ?_
  refine x_newI O q204 dX0_least_5 (fun p3 s4 => ?_)
  refine s_dup O rfl dX0_least_7 ?_
  refine s_iconst O (x := 0) (by decide) dX0_least_8 ?_
  refine s_aload_n O 0 rfl rfl dX0_least_9 ?_
  refine x_getN O (ci := 5) (T := TX5) (N := 2) in_X5 rfl 0 (by decide) (zf_q708 hzz) (fun _ h => h) dX0_least_10 (fun v0 => ?_)
  refine s_vR (fun r5 => ?_)
  refine s_iconst O (x := 0) (by decide) dX0_least_13 ?_
  refine s_dr (fun p6 hp7 => ?_)
  subst hp7
  refine x_iald O dX0_least_14 (fun u8 => ?_)
  refine s_aload_n O 1 rfl rfl dX0_least_15 ?_
  refine x_getN O (ci := 5) (T := TX5) (N := 2) in_X5 rfl 0 (by decide) (zf_q708 hzz) (fun _ h => h) dX0_least_16 (fun v0 => ?_)
  refine s_vR (fun r9 => ?_)
  refine s_iconst O (x := 0) (by decide) dX0_least_19 ?_
  refine s_dr (fun p10 hp11 => ?_)
  subst hp11
  refine x_iald O dX0_least_20 (fun u12 => ?_)
  refine s_callP O (enc2 := eI) (av := [.int u8, .int u12]) (rest := [.int 0, .ref p3, .ref p3, .ref p1, .ref p1]) 2 (fun v0 h0 => mt_J8_max (xL X) (xG X) _ u8 u12 v0 h0) (lw_S q1422 q437 q143 q438) hd_J8_max ⟨Nat.le_of_ble_eq_true rfl, Nat.le_of_ble_eq_true rfl⟩ rfl (Nat.le_of_ble_eq_true rfl) dX0_least_21 (fun v13 => ?_)
  refine x_iast O dX0_least_24 (fun s15 => ?_)
  refine s_dup O rfl dX0_least_25 ?_
  refine s_iconst O (x := 1) (by decide) dX0_least_26 ?_
  refine s_aload_n O 0 rfl rfl dX0_least_27 ?_
  refine x_getN O (ci := 5) (T := TX5) (N := 2) in_X5 rfl 0 (by decide) (zf_q708 hzz) (fun _ h => h) dX0_least_28 (fun v0 => ?_)
  refine s_vR (fun r16 => ?_)
  refine s_iconst O (x := 1) (by decide) dX0_least_31 ?_
  refine s_dr (fun p17 hp18 => ?_)
  subst hp18
  refine x_iald O dX0_least_32 (fun u19 => ?_)
  refine s_aload_n O 1 rfl rfl dX0_least_33 ?_
  refine x_getN O (ci := 5) (T := TX5) (N := 2) in_X5 rfl 0 (by decide) (zf_q708 hzz) (fun _ h => h) dX0_least_34 (fun v0 => ?_)
  refine s_vR (fun r20 => ?_)
  refine s_iconst O (x := 1) (by decide) dX0_least_37 ?_
  refine s_dr (fun p21 hp22 => ?_)
  subst hp22
  refine x_iald O dX0_least_38 (fun u23 => ?_)
  refine s_callP O (enc2 := eI) (av := [.int u19, .int u23]) (rest := [.int 1, .ref p3, .ref p3, .ref p1, .ref p1]) 2 (fun v0 h0 => mt_J8_max (xL X) (xG X) _ u19 u23 v0 h0) (lw_S q1422 q437 q143 q438) hd_J8_max ⟨Nat.le_of_ble_eq_true rfl, Nat.le_of_ble_eq_true rfl⟩ rfl (Nat.le_of_ble_eq_true rfl) dX0_least_39 (fun v24 => ?_)
  refine x_iast O dX0_least_42 (fun s26 => ?_)
  refine s_dup O rfl dX0_least_43 ?_
  refine s_iconst O (x := 2) (by decide) dX0_least_44 ?_
  refine s_aload_n O 0 rfl rfl dX0_least_45 ?_
  refine x_getN O (ci := 5) (T := TX5) (N := 2) in_X5 rfl 0 (by decide) (zf_q708 hzz) (fun _ h => h) dX0_least_46 (fun v0 => ?_)
  refine s_vR (fun r27 => ?_)
  refine s_iconst O (x := 2) (by decide) dX0_least_49 ?_
  refine s_dr (fun p28 hp29 => ?_)
  subst hp29
  refine x_iald O dX0_least_50 (fun u30 => ?_)
  refine s_aload_n O 1 rfl rfl dX0_least_51 ?_
  refine x_getN O (ci := 5) (T := TX5) (N := 2) in_X5 rfl 0 (by decide) (zf_q708 hzz) (fun _ h => h) dX0_least_52 (fun v0 => ?_)
  refine s_vR (fun r31 => ?_)
  refine s_iconst O (x := 2) (by decide) dX0_least_55 ?_
  refine s_dr (fun p32 hp33 => ?_)
  subst hp33
  refine x_iald O dX0_least_56 (fun u34 => ?_)
  refine s_callP O (enc2 := eI) (av := [.int u30, .int u34]) (rest := [.int 2, .ref p3, .ref p3, .ref p1, .ref p1]) 2 (fun v0 h0 => mt_J8_max (xL X) (xG X) _ u30 u34 v0 h0) (lw_S q1422 q437 q143 q438) hd_J8_max ⟨Nat.le_of_ble_eq_true rfl, Nat.le_of_ble_eq_true rfl⟩ rfl (Nat.le_of_ble_eq_true rfl) dX0_least_57 (fun v35 => ?_)
  refine x_iast O dX0_least_60 (fun s37 => ?_)
  refine s_dup O rfl dX0_least_61 ?_
  refine s_iconst O (x := 3) (by decide) dX0_least_62 ?_
  refine s_aload_n O 0 rfl rfl dX0_least_63 ?_
  refine x_getN O (ci := 5) (T := TX5) (N := 2) in_X5 rfl 0 (by decide) (zf_q708 hzz) (fun _ h => h) dX0_least_64 (fun v0 => ?_)
  refine s_vR (fun r38 => ?_)
  refine s_iconst O (x := 3) (by decide) dX0_least_67 ?_
  refine s_dr (fun p39 hp40 => ?_)
  subst hp40
  refine x_iald O dX0_least_68 (fun u41 => ?_)
  refine s_aload_n O 1 rfl rfl dX0_least_69 ?_
  refine x_getN O (ci := 5) (T := TX5) (N := 2) in_X5 rfl 0 (by decide) (zf_q708 hzz) (fun _ h => h) dX0_least_70 (fun v0 => ?_)
  refine s_vR (fun r42 => ?_)
  refine s_iconst O (x := 3) (by decide) dX0_least_73 ?_
  refine s_dr (fun p43 hp44 => ?_)
  subst hp44
  refine x_iald O dX0_least_74 (fun u45 => ?_)
  refine s_callP O (enc2 := eI) (av := [.int u41, .int u45]) (rest := [.int 3, .ref p3, .ref p3, .ref p1, .ref p1]) 2 (fun v0 h0 => mt_J8_max (xL X) (xG X) _ u41 u45 v0 h0) (lw_S q1422 q437 q143 q438) hd_J8_max ⟨Nat.le_of_ble_eq_true rfl, Nat.le_of_ble_eq_true rfl⟩ rfl (Nat.le_of_ble_eq_true rfl) dX0_least_75 (fun v46 => ?_)
  refine x_iast O dX0_least_78 (fun s48 => ?_)
  refine x_callI O (enc2 := eU) (av := [.ref p3]) (rest := [.ref p1]) 1 (fun v0 t0 h0 => mt_X5_init (xL X) (xG X) hfl hg p1 p3 _ t0 v0 h0) q704 q151 q961 q703 rfl hd_X5_init ⟨Nat.le_of_ble_eq_true rfl, Nat.le_of_ble_eq_true rfl⟩ rfl (Nat.le_of_ble_eq_true rfl) dX0_least_79 (fun v49 s50 => ?_)
  exact s_areturnQ O (r := (some p1)) hr (Or.inl ⟨_, rfl⟩) rfl dX0_least_82
theorem mt_X0_least (l : Launch) (G : XG) (hfl : l.stackTraces = false) (hg : G.2.2.2.2 = zAll G.1.1 G.1.2.2.2 G.2.2.2.1) (x0 : Nat) (x1 : Nat) (s t : XS) (v : Option Nat) (h : x0_least x0 x1 s = some (v, t)) : xMet l yX0_least (ws_ yX0_least cX0_least 2 (some (.object "QuotientRows$Mono"))) 2 42 G (xI s) [.ref x0, .ref x1] (eR v) (xI t) :=
  xMet_of (E := xI) (enc := eR) (by decide +kernel) (Nat.le_of_ble_eq_true rfl) (fun X hl hG O hr hm => by subst hl; subst hG; exact wk_X0_least O hfl hg hr hm x0 x1 s) h
theorem hd_X0_lambda_mix_2 : yX0_lambda_mix_2.cls ≠ "java/lang/invoke/MethodHandle" ∧ yX0_lambda_mix_2.cls ≠ "java/lang/invoke/VarHandle" ∧ (parseMethodDescriptor yX0_lambda_mix_2.desc).map (fun d => d.parameters.length) = some 2 := by decide +kernel
theorem hv_X0_lambda_mix_2 : yX0_lambda_mix_2.cls = RX0 ∧ yX0_lambda_mix_2.cls ≠ "java/lang/invoke/MethodHandle" ∧ yX0_lambda_mix_2.cls ≠ "java/lang/invoke/VarHandle" ∧ (parseMethodDescriptor yX0_lambda_mix_2.desc).map (fun d => d.parameters.length) = some 2 := ⟨rfl, hd_X0_lambda_mix_2⟩
theorem hu_X0_lambda_mix_2 : yX0_lambda_mix_2.name ≠ "<init>" ∧ (parseMethodDescriptor yX0_lambda_mix_2.desc).map (fun d => d.parameters.length) = some 2 := ⟨by decide +kernel, hd_X0_lambda_mix_2.2.2⟩
set_option maxHeartbeats 4000000 in
set_option maxRecDepth 100000 in
theorem wk_X0_lambda_mix_2 {X : XC} (O : XOk X cX0_lambda_mix_2 RX0 3 63) (hfl : (xL X).stackTraces = false) (hg : (xG X).2.2.2.2 = zAll (xG X).1.1 (xG X).1.2.2.2 (xG X).2.2.2.1) (hr : (xMeth X).sig.returnType = (some (.object "QuotientRows$Mono"))) (hm : (xC X).maxLocals = 2) (x0 : Nat) (x1 : Nat) (s : XS) : Sim X xI (retC X eR xI) 0 [(0, .ref x0), (1, .ref x1)] [] s (x0_lambda_mix_2 x0 x1 s) := by
  have hzz := O.hst
  rw [hg] at hzz
  unfold x0_lambda_mix_2
  refine s_aload_n O 0 rfl rfl dX0_lambda_mix_2_0 ?_
  refine s_aload_n O 1 rfl rfl dX0_lambda_mix_2_1 ?_
  refine x_callS O (enc2 := eR) (av := [.ref x0, .ref x1]) (rest := []) 2 (fun v0 t0 h0 => mt_X0_least (xL X) (xG X) hfl hg x0 x1 _ t0 v0 h0) (lw_S q1419 q1420 q131 q1421) hd_X0_least ⟨Nat.le_of_ble_eq_true rfl, Nat.le_of_ble_eq_true rfl⟩ rfl (Nat.le_of_ble_eq_true rfl) dX0_lambda_mix_2_2 (fun r1 s2 => ?_)
  exact s_areturnQ O (r := r1) hr (Or.inl ⟨_, rfl⟩) rfl dX0_lambda_mix_2_5
theorem mt_X0_lambda_mix_2 (l : Launch) (G : XG) (hfl : l.stackTraces = false) (hg : G.2.2.2.2 = zAll G.1.1 G.1.2.2.2 G.2.2.2.1) (x0 : Nat) (x1 : Nat) (s t : XS) (v : Option Nat) (h : x0_lambda_mix_2 x0 x1 s = some (v, t)) : xMet l yX0_lambda_mix_2 (ws_ yX0_lambda_mix_2 cX0_lambda_mix_2 2 (some (.object "QuotientRows$Mono"))) 3 63 G (xI s) [.ref x0, .ref x1] (eR v) (xI t) :=
  xMet_of (E := xI) (enc := eR) (by decide +kernel) (Nat.le_of_ble_eq_true rfl) (fun X hl hG O hr hm => by subst hl; subst hG; exact wk_X0_lambda_mix_2 O hfl hg hr hm x0 x1 s) h
theorem hd_X0_made : yX0_made.cls ≠ "java/lang/invoke/MethodHandle" ∧ yX0_made.cls ≠ "java/lang/invoke/VarHandle" ∧ (parseMethodDescriptor yX0_made.desc).map (fun d => d.parameters.length) = some 2 := by decide +kernel
theorem hv_X0_made : yX0_made.cls = RX0 ∧ yX0_made.cls ≠ "java/lang/invoke/MethodHandle" ∧ yX0_made.cls ≠ "java/lang/invoke/VarHandle" ∧ (parseMethodDescriptor yX0_made.desc).map (fun d => d.parameters.length) = some 2 := ⟨rfl, hd_X0_made⟩
theorem hu_X0_made : yX0_made.name ≠ "<init>" ∧ (parseMethodDescriptor yX0_made.desc).map (fun d => d.parameters.length) = some 2 := ⟨by decide +kernel, hd_X0_made.2.2⟩
set_option maxHeartbeats 4000000 in
set_option maxRecDepth 100000 in
theorem wk_X0_made {X : XC} (O : XOk X cX0_made RX0 6 122) (hfl : (xL X).stackTraces = false) (hg : (xG X).2.2.2.2 = zAll (xG X).1.1 (xG X).1.2.2.2 (xG X).2.2.2.1) (hr : (xMeth X).sig.returnType = (some (.object "QuotientRows$State"))) (hm : (xC X).maxLocals = 8) (o : Nat) (x1 : Nat) (x2 : Nat) (s : XS) : Sim X xI (retC X eR xI) 0 [(0, .ref o), (1, .ref x1), (2, .ref x2)] [] s (x0_made o x1 x2 s) := by
  have hzz := O.hst
  rw [hg] at hzz
  unfold x0_made
  refine s_aload_n O 0 rfl rfl dX0_made_0 ?_
  refine x_callV O (enc2 := eR) (ci := 0) (av := []) (rest := []) 0 (fun v0 t0 h0 => mt_X0_like (xL X) (xG X) hfl hg o _ t0 v0 h0) (lw_V q1360 q1362 qs49 q131 q1363) hv_X0_like ⟨Nat.le_of_ble_eq_true rfl, Nat.le_of_ble_eq_true rfl⟩ rfl rfl (Nat.le_of_ble_eq_true rfl) dX0_made_1 (fun r1 s2 => ?_)
  refine s_astore_nQ O (r := r1) (L' := [(0, .ref o), (1, .ref x1), (2, .ref x2)]) rfl hm (by decide) (fun _ => rfl) dX0_made_4 ?_
  refine s_aload_n O 1 rfl rfl dX0_made_5 ?_
  refine x_get O (ci := 0) (T := TX0) (N := 20) in_X0 rfl 3 (by decide) q234 (fun _ h => h) dX0_made_6 (fun v0 => ?_)
  refine s_vR (fun r3 => ?_)
  refine s_dr (fun p4 hp5 => ?_)
  subst hp5
  refine x_getN O (ci := 1) (T := TX1) (N := 6) in_X1 rfl 1 (by decide) (zf_q208 hzz) (fun _ h => h) dX0_made_9 (fun v0 => ?_)
  refine s_vR (fun r6 => ?_)
  refine s_dr (fun p7 hp8 => ?_)
  subst hp8
  refine x_callF O (enc2 := eR) (ci := 7) (av := []) (rest := []) 0 (fun v0 t0 h0 => mt_J2_iterator (xL X) (xG X) hfl hg p7 _ t0 v0 h0) (lw_F q1210 q782 q784 q135 q786) (zw_2 hzz) hf_J2_iterator ⟨Nat.le_of_ble_eq_true rfl, Nat.le_of_ble_eq_true rfl⟩ rfl rfl (Nat.le_of_ble_eq_true rfl) dX0_made_12 (fun r9 s10 => ?_)
  refine s_astoreQ O (r := r9) (L' := [(3, va_rf r1), (0, .ref o), (1, .ref x1), (2, .ref x2)]) hm (by decide) (fun _ => (by generalize r1 = zq0; cases zq0 <;> rfl)) dX0_made_17 ?_
  refine Sim.sub (L' := [(1, .ref x1), (2, .ref x2), (3, va_rf r1), (4, va_rf r9)]) [3, 4, 1, 0] rfl ?_
  refine s_while (A := Unit) (B := Unit) (La := fun _ => [(1, .ref x1), (2, .ref x2), (3, va_rf r1), (4, va_rf r9)]) (We := fun b19 s35 => xWX X 95 [(3, va_rf r1)] [] ((xI) s35)) rfl rfl ?_ ?_
  · intro Cl hn he a19 s11
    unfold x0_made_s19
    refine s_aloadQ O 3 rfl dX0_made_19 ?_
    refine s_dr (fun p12 hp13 => ?_)
    subst hp13
    refine x_callF O (enc2 := eI) (ci := 8) (av := []) (rest := []) 0 (fun v0 t0 h0 => mt_J14_hasNext (xL X) (xG X) hfl hg p12 _ t0 v0 h0) (lw_F q1212 q811 q813 q152 q815) (zw_7 hzz) hf_J14_hasNext ⟨Nat.le_of_ble_eq_true rfl, Nat.le_of_ble_eq_true rfl⟩ rfl rfl (Nat.le_of_ble_eq_true rfl) dX0_made_21 (fun v14 s15 => ?_)
    refine s_if_eq O (tgt := 95) dX0_made_26 (by decide) ?_ ?_
    · refine Sim.sub (L' := [(3, va_rf r1)]) [2] rfl ?_
      exact Sim.ret (he _ _)
    · refine s_aload O 3 rfl dX0_made_29 ?_
      refine x_callF O (enc2 := eR) (ci := 8) (av := []) (rest := []) 0 (fun v0 t0 h0 => mt_J14_next (xL X) (xG X) hfl hg p12 _ t0 v0 h0) (lw_F q1214 q820 q822 q152 q824) (zw_8 hzz) hf_J14_next ⟨Nat.le_of_ble_eq_true rfl, Nat.le_of_ble_eq_true rfl⟩ rfl rfl (Nat.le_of_ble_eq_true rfl) dX0_made_31 (fun r16 s17 => ?_)
      refine s_dr (fun p18 hp19 => ?_)
      subst hp19
      refine x_cast O (ci := 5) rfl q945 dX0_made_36 ?_
      refine s_astore O (L' := [(5, .ref p18), (1, .ref x1), (2, .ref x2), (3, va_rf r1), (4, .ref p12)]) hm (by decide) rfl dX0_made_39 ?_
      refine s_aload_n O 1 rfl rfl dX0_made_41 ?_
      refine x_getN O (ci := 1) (T := TX1) (N := 6) in_X1 rfl 1 (by decide) (zf_q208 hzz) (fun _ h => h) dX0_made_42 (fun v0 => ?_)
      refine s_vR (fun r20 => ?_)
      refine s_dr (fun p21 hp22 => ?_)
      subst hp22
      refine x_callF O (enc2 := eR) (ci := 7) (av := []) (rest := []) 0 (fun v0 t0 h0 => mt_J2_iterator (xL X) (xG X) hfl hg p21 _ t0 v0 h0) (lw_F q1210 q782 q784 q135 q786) (zw_2 hzz) hf_J2_iterator ⟨Nat.le_of_ble_eq_true rfl, Nat.le_of_ble_eq_true rfl⟩ rfl rfl (Nat.le_of_ble_eq_true rfl) dX0_made_45 (fun r23 s24 => ?_)
      refine s_astoreQ O (r := r23) (L' := [(5, .ref p18), (1, .ref x1), (2, .ref x2), (3, va_rf r1), (4, .ref p12)]) hm (by decide) (fun _ => rfl) dX0_made_50 ?_
      refine Sim.sub (L' := [(1, .ref x1), (2, .ref x2), (3, va_rf r1), (4, .ref p12), (5, .ref p18), (6, va_rf r23)]) [2, 3, 4, 5, 1, 0] rfl ?_
      refine s_while (A := Unit) (B := Unit) (La := fun _ => [(1, .ref x1), (2, .ref x2), (3, va_rf r1), (4, .ref p12), (5, .ref p18), (6, va_rf r23)]) (We := fun b52 s34 => xWX X 92 [(1, .ref x1), (2, .ref x2), (3, va_rf r1), (4, .ref p12)] [] ((xI) s34)) rfl rfl ?_ ?_
      · intro Cl hn he a52 s25
        unfold x0_made_s52
        refine s_aloadQ O 5 rfl dX0_made_52 ?_
        refine s_dr (fun p26 hp27 => ?_)
        subst hp27
        refine x_callF O (enc2 := eI) (ci := 8) (av := []) (rest := []) 0 (fun v0 t0 h0 => mt_J14_hasNext (xL X) (xG X) hfl hg p26 _ t0 v0 h0) (lw_F q1212 q811 q813 q152 q815) (zw_7 hzz) hf_J14_hasNext ⟨Nat.le_of_ble_eq_true rfl, Nat.le_of_ble_eq_true rfl⟩ rfl rfl (Nat.le_of_ble_eq_true rfl) dX0_made_54 (fun v28 s29 => ?_)
        refine s_if_eq O (tgt := 92) dX0_made_59 (by decide) ?_ ?_
        · refine Sim.sub (L' := [(1, .ref x1), (2, .ref x2), (3, va_rf r1), (4, .ref p12)]) [0, 1, 2, 3] rfl ?_
          exact Sim.ret (he _ _)
        · exact Sim.none
      · intro b52 s34
        show Sim X (xI) Cl 92 [(1, .ref x1), (2, .ref x2), (3, va_rf r1), (4, .ref p12)] [] s34 _
        refine s_goto O (tgt := 19) dX0_made_92 (by decide) ?_
        exact Sim.ret (hn _ _)
  · intro b19 s35
    show Sim X (xI) (retC X eR xI) 95 [(3, va_rf r1)] [] s35 _
    refine s_aload_nQ O 0 rfl rfl dX0_made_95 ?_
    exact s_areturnQ O (r := r1) hr (Or.inl ⟨_, rfl⟩) rfl dX0_made_96
theorem mt_X0_made (l : Launch) (G : XG) (hfl : l.stackTraces = false) (hg : G.2.2.2.2 = zAll G.1.1 G.1.2.2.2 G.2.2.2.1) (o : Nat) (x1 : Nat) (x2 : Nat) (s t : XS) (v : Option Nat) (h : x0_made o x1 x2 s = some (v, t)) : xMet l yX0_made (ws_ yX0_made cX0_made 8 (some (.object "QuotientRows$State"))) 6 122 G (xI s) [.ref o, .ref x1, .ref x2] (eR v) (xI t) :=
  xMet_of (E := xI) (enc := eR) (by decide +kernel) (Nat.le_of_ble_eq_true rfl) (fun X hl hG O hr hm => by subst hl; subst hG; exact wk_X0_made O hfl hg hr hm o x1 x2 s) h
theorem hd_X0_lambda_mix_3 : yX0_lambda_mix_3.cls ≠ "java/lang/invoke/MethodHandle" ∧ yX0_lambda_mix_3.cls ≠ "java/lang/invoke/VarHandle" ∧ (parseMethodDescriptor yX0_lambda_mix_3.desc).map (fun d => d.parameters.length) = some 2 := by decide +kernel
theorem hv_X0_lambda_mix_3 : yX0_lambda_mix_3.cls = RX0 ∧ yX0_lambda_mix_3.cls ≠ "java/lang/invoke/MethodHandle" ∧ yX0_lambda_mix_3.cls ≠ "java/lang/invoke/VarHandle" ∧ (parseMethodDescriptor yX0_lambda_mix_3.desc).map (fun d => d.parameters.length) = some 2 := ⟨rfl, hd_X0_lambda_mix_3⟩
theorem hu_X0_lambda_mix_3 : yX0_lambda_mix_3.name ≠ "<init>" ∧ (parseMethodDescriptor yX0_lambda_mix_3.desc).map (fun d => d.parameters.length) = some 2 := ⟨by decide +kernel, hd_X0_lambda_mix_3.2.2⟩
set_option maxHeartbeats 4000000 in
set_option maxRecDepth 100000 in
theorem wk_X0_lambda_mix_3 {X : XC} (O : XOk X cX0_lambda_mix_3 RX0 3 63) (hfl : (xL X).stackTraces = false) (hg : (xG X).2.2.2.2 = zAll (xG X).1.1 (xG X).1.2.2.2 (xG X).2.2.2.1) (hr : (xMeth X).sig.returnType = (some (.object "QuotientRows$Mono"))) (hm : (xC X).maxLocals = 2) (x0 : Nat) (x1 : Nat) (s : XS) : Sim X xI (retC X eR xI) 0 [(0, .ref x0), (1, .ref x1)] [] s (x0_lambda_mix_3 x0 x1 s) := by
  have hzz := O.hst
  rw [hg] at hzz
  unfold x0_lambda_mix_3
  refine s_aload_n O 0 rfl rfl dX0_lambda_mix_3_0 ?_
  refine s_aload_n O 1 rfl rfl dX0_lambda_mix_3_1 ?_
  refine x_callV O (enc2 := eR) (ci := 5) (av := [.ref x1]) (rest := []) 1 (fun v0 t0 h0 => mt_X5_times (xL X) (xG X) hfl hg x0 x1 _ t0 v0 h0) (lw_V q1381 q1382 q1383 q151 q1384) hv_X5_times ⟨Nat.le_of_ble_eq_true rfl, Nat.le_of_ble_eq_true rfl⟩ rfl rfl (Nat.le_of_ble_eq_true rfl) dX0_lambda_mix_3_2 (fun r1 s2 => ?_)
  exact s_areturnQ O (r := r1) hr (Or.inl ⟨_, rfl⟩) rfl dX0_lambda_mix_3_5
theorem mt_X0_lambda_mix_3 (l : Launch) (G : XG) (hfl : l.stackTraces = false) (hg : G.2.2.2.2 = zAll G.1.1 G.1.2.2.2 G.2.2.2.1) (x0 : Nat) (x1 : Nat) (s t : XS) (v : Option Nat) (h : x0_lambda_mix_3 x0 x1 s = some (v, t)) : xMet l yX0_lambda_mix_3 (ws_ yX0_lambda_mix_3 cX0_lambda_mix_3 2 (some (.object "QuotientRows$Mono"))) 3 63 G (xI s) [.ref x0, .ref x1] (eR v) (xI t) :=
  xMet_of (E := xI) (enc := eR) (by decide +kernel) (Nat.le_of_ble_eq_true rfl) (fun X hl hG O hr hm => by subst hl; subst hG; exact wk_X0_lambda_mix_3 O hfl hg hr hm x0 x1 s) h
theorem hd_X0_undo : yX0_undo.cls ≠ "java/lang/invoke/MethodHandle" ∧ yX0_undo.cls ≠ "java/lang/invoke/VarHandle" ∧ (parseMethodDescriptor yX0_undo.desc).map (fun d => d.parameters.length) = some 0 := by decide +kernel
theorem hv_X0_undo : yX0_undo.cls = RX0 ∧ yX0_undo.cls ≠ "java/lang/invoke/MethodHandle" ∧ yX0_undo.cls ≠ "java/lang/invoke/VarHandle" ∧ (parseMethodDescriptor yX0_undo.desc).map (fun d => d.parameters.length) = some 0 := ⟨rfl, hd_X0_undo⟩
theorem hu_X0_undo : yX0_undo.name ≠ "<init>" ∧ (parseMethodDescriptor yX0_undo.desc).map (fun d => d.parameters.length) = some 0 := ⟨by decide +kernel, hd_X0_undo.2.2⟩
set_option maxHeartbeats 4000000 in
set_option maxRecDepth 100000 in
theorem wk_X0_undo {X : XC} (O : XOk X cX0_undo RX0 3 106) (hfl : (xL X).stackTraces = false) (hg : (xG X).2.2.2.2 = zAll (xG X).1.1 (xG X).1.2.2.2 (xG X).2.2.2.1) (hr : (xMeth X).sig.returnType = (some .boolean)) (hm : (xC X).maxLocals = 1) (o : Nat) (s : XS) : Sim X xI (retC X eI xI) 0 [(0, .ref o)] [] s (x0_undo o s) := by
  have hzz := O.hst
  rw [hg] at hzz
  unfold x0_undo
  refine s_aload_n O 0 rfl rfl dX0_undo_0 ?_
  refine x_get O (ci := 0) (T := TX0) (N := 20) in_X0 rfl 6 (by decide) q237 (fun _ h => h) dX0_undo_1 (fun v0 => ?_)
  refine s_vR (fun r1 => ?_)
  refine s_dr (fun p2 hp3 => ?_)
  subst hp3
  refine x_callF O (enc2 := eI) (ci := 7) (av := []) (rest := []) 0 (fun v0 t0 h0 => mt_J2_isEmpty (xL X) (xG X) hfl hg p2 _ t0 v0 h0) (lw_F q1380 q1131 q1133 q135 q1135) (zw_6 hzz) hf_J2_isEmpty ⟨Nat.le_of_ble_eq_true rfl, Nat.le_of_ble_eq_true rfl⟩ rfl rfl (Nat.le_of_ble_eq_true rfl) dX0_undo_4 (fun v4 s5 => ?_)
  refine s_if_eq O (tgt := 18) dX0_undo_9 (by decide) ?_ ?_
  · refine s_aload_n O 0 rfl rfl dX0_undo_18 ?_
    refine s_aload_n O 0 rfl rfl dX0_undo_19 ?_
    refine x_get O (ci := 0) (T := TX0) (N := 20) in_X0 rfl 6 (by decide) q237 (fun _ h => h) dX0_undo_20 (fun v0 => ?_)
    refine s_vR (fun r6 => ?_)
    refine s_aload_n O 0 rfl rfl dX0_undo_23 ?_
    refine x_get O (ci := 0) (T := TX0) (N := 20) in_X0 rfl 6 (by decide) q237 (fun _ h => h) dX0_undo_24 (fun v0 => ?_)
    refine s_vR (fun r7 => ?_)
    refine s_dr (fun p8 hp9 => ?_)
    subst hp9
    refine x_callF O (enc2 := eI) (ci := 7) (av := []) (rest := [va_rf r6, .ref o]) 0 (fun v0 t0 h0 => mt_J2_size (xL X) (xG X) hfl hg p8 _ t0 v0 h0) (lw_F q897 q695 q697 q135 q699) (zw_0 hzz) hf_J2_size ⟨Nat.le_of_ble_eq_true rfl, Nat.le_of_ble_eq_true rfl⟩ rfl rfl (by generalize r6 = zq0; cases zq0 <;> exact Nat.le_of_ble_eq_true rfl) dX0_undo_27 (fun v10 s11 => ?_)
    refine s_iconst O (x := 1) (by decide) dX0_undo_32 ?_
    refine s_isub O dX0_undo_33 ?_
    refine s_dr (fun p12 hp13 => ?_)
    subst hp13
    refine x_callF O (enc2 := eR) (ci := 7) (av := [.int (v10 - 1)]) (rest := [.ref o]) 1 (fun v0 t0 h0 => mt_J2_remove (xL X) (xG X) hfl hg p12 (v10 - 1) _ t0 v0 h0) (lw_F q899 q865 q867 q135 q869) (zw_4 hzz) hf_J2_remove ⟨Nat.le_of_ble_eq_true rfl, Nat.le_of_ble_eq_true rfl⟩ rfl rfl (Nat.le_of_ble_eq_true rfl) dX0_undo_34 (fun r14 s15 => ?_)
    refine s_dr (fun p16 hp17 => ?_)
    subst hp17
    refine x_cast O (ci := 1) rfl q165 dX0_undo_39 ?_
    refine x_put O (ci := 0) (T := TX0) (N := 20) (ty := (.object "QuotientRows$State")) in_X0 tyX0 tyX0_ok nmX0 rfl 3 (by decide) q234 (fun _ h => h) rfl (by decide +kernel) rfl rfl dX0_undo_42 (fun s18 => ?_)
    refine s_aload_n O 0 rfl rfl dX0_undo_45 ?_
    refine s_null O dX0_undo_46 ?_
    refine x_put O (ci := 0) (T := TX0) (N := 20) (ty := (.array .boolean)) in_X0 tyX0 tyX0_ok nmX0 rfl 12 (by decide) q243 (fun _ h => h) rfl (by decide +kernel) rfl rfl dX0_undo_47 (fun s19 => ?_)
    refine s_iconst O (x := 1) (by decide) dX0_undo_50 ?_
    exact s_zreturnK O hr rfl rfl dX0_undo_51
  · refine s_aload_n O 0 rfl rfl dX0_undo_12 ?_
    refine s_iconst O (x := 3) (by decide) dX0_undo_13 ?_
    refine x_callV O (enc2 := eI) (ci := 0) (av := [.int 3]) (rest := []) 1 (fun v0 t0 h0 => mt_X0_refuses (xL X) (xG X) hfl hg o 3 _ t0 v0 h0) (lw_V q308 q310 qs2 q131 q311) hv_X0_refuses ⟨Nat.le_of_ble_eq_true rfl, Nat.le_of_ble_eq_true rfl⟩ rfl rfl (Nat.le_of_ble_eq_true rfl) dX0_undo_14 (fun v20 s21 => ?_)
    exact s_zretB O hr rfl dX0_undo_17
theorem mt_X0_undo (l : Launch) (G : XG) (hfl : l.stackTraces = false) (hg : G.2.2.2.2 = zAll G.1.1 G.1.2.2.2 G.2.2.2.1) (o : Nat) (s t : XS) (v : Int32) (h : x0_undo o s = some (v, t)) : xMet l yX0_undo (ws_ yX0_undo cX0_undo 1 (some .boolean)) 3 106 G (xI s) [.ref o] (eI v) (xI t) :=
  xMet_of (E := xI) (enc := eI) (by decide +kernel) (Nat.le_of_ble_eq_true rfl) (fun X hl hG O hr hm => by subst hl; subst hG; exact wk_X0_undo O hfl hg hr hm o s) h
theorem hd_X1_lambda_size_0 : yX1_lambda_size_0.cls ≠ "java/lang/invoke/MethodHandle" ∧ yX1_lambda_size_0.cls ≠ "java/lang/invoke/VarHandle" ∧ (parseMethodDescriptor yX1_lambda_size_0.desc).map (fun d => d.parameters.length) = some 1 := by decide +kernel
theorem hv_X1_lambda_size_0 : yX1_lambda_size_0.cls = RX1 ∧ yX1_lambda_size_0.cls ≠ "java/lang/invoke/MethodHandle" ∧ yX1_lambda_size_0.cls ≠ "java/lang/invoke/VarHandle" ∧ (parseMethodDescriptor yX1_lambda_size_0.desc).map (fun d => d.parameters.length) = some 1 := ⟨rfl, hd_X1_lambda_size_0⟩
theorem hu_X1_lambda_size_0 : yX1_lambda_size_0.name ≠ "<init>" ∧ (parseMethodDescriptor yX1_lambda_size_0.desc).map (fun d => d.parameters.length) = some 1 := ⟨by decide +kernel, hd_X1_lambda_size_0.2.2⟩
set_option maxHeartbeats 4000000 in
set_option maxRecDepth 100000 in
theorem wk_X1_lambda_size_0 {X : XC} (O : XOk X cX1_lambda_size_0 RX1 4 86) (hfl : (xL X).stackTraces = false) (hg : (xG X).2.2.2.2 = zAll (xG X).1.1 (xG X).1.2.2.2 (xG X).2.2.2.1) (hr : (xMeth X).sig.returnType = (some .boolean)) (hm : (xC X).maxLocals = 2) (o : Nat) (x1 : Nat) (s : XS) : Sim X xI (retC X eI xI) 0 [(0, .ref o), (1, .ref x1)] [] s (x1_lambda_size_0 o x1 s) := by
  have hzz := O.hst
  rw [hg] at hzz
  unfold x1_lambda_size_0
  refine s_aload_n O 0 rfl rfl dX1_lambda_size_0_0 ?_
  refine s_aload_n O 1 rfl rfl dX1_lambda_size_0_1 ?_
  refine x_callV O (enc2 := eI) (ci := 1) (av := [.ref x1]) (rest := []) 1 (fun v0 t0 h0 => mt_X1_covers (xL X) (xG X) hfl hg o x1 _ t0 v0 h0) (lw_V q834 q835 q836 q132 q837) hv_X1_covers ⟨Nat.le_of_ble_eq_true rfl, Nat.le_of_ble_eq_true rfl⟩ rfl rfl (Nat.le_of_ble_eq_true rfl) dX1_lambda_size_0_2 (fun v1 s2 => ?_)
  refine s_if_ne O (tgt := 12) dX1_lambda_size_0_5 (by decide) ?_ ?_
  · refine s_iconst O (x := 0) (by decide) dX1_lambda_size_0_12 ?_
    exact s_zreturnK O hr rfl rfl dX1_lambda_size_0_13
  · refine s_iconst O (x := 1) (by decide) dX1_lambda_size_0_8 ?_
    refine s_goto O (tgt := 13) dX1_lambda_size_0_9 (by decide) ?_
    exact s_zreturnK O hr rfl rfl dX1_lambda_size_0_13
theorem mt_X1_lambda_size_0 (l : Launch) (G : XG) (hfl : l.stackTraces = false) (hg : G.2.2.2.2 = zAll G.1.1 G.1.2.2.2 G.2.2.2.1) (o : Nat) (x1 : Nat) (s t : XS) (v : Int32) (h : x1_lambda_size_0 o x1 s = some (v, t)) : xMet l yX1_lambda_size_0 (ws_ yX1_lambda_size_0 cX1_lambda_size_0 2 (some .boolean)) 4 86 G (xI s) [.ref o, .ref x1] (eI v) (xI t) :=
  xMet_of (E := xI) (enc := eI) (by decide +kernel) (Nat.le_of_ble_eq_true rfl) (fun X hl hG O hr hm => by subst hl; subst hG; exact wk_X1_lambda_size_0 O hfl hg hr hm o x1 s) h
