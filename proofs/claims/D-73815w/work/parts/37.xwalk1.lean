/-! THE COMPONENT's WALKS, printed by tools/mk_x.py -/
theorem hd_X3_statement : yX3_statement.cls ≠ "java/lang/invoke/MethodHandle" ∧ yX3_statement.cls ≠ "java/lang/invoke/VarHandle" ∧ (parseMethodDescriptor yX3_statement.desc).map (fun d => d.parameters.length) = some 0 := by decide +kernel
theorem hv_X3_statement : yX3_statement.cls = RX3 ∧ yX3_statement.cls ≠ "java/lang/invoke/MethodHandle" ∧ yX3_statement.cls ≠ "java/lang/invoke/VarHandle" ∧ (parseMethodDescriptor yX3_statement.desc).map (fun d => d.parameters.length) = some 0 := ⟨rfl, hd_X3_statement⟩
theorem hu_X3_statement : yX3_statement.name ≠ "<init>" ∧ (parseMethodDescriptor yX3_statement.desc).map (fun d => d.parameters.length) = some 0 := ⟨by decide +kernel, hd_X3_statement.2.2⟩
set_option maxHeartbeats 4000000 in
set_option maxRecDepth 100000 in
theorem wk_X3_statement {X : XC} (O : XOk X cX3_statement RX3 8 216) (hfl : (xL X).stackTraces = false) (hg : (xG X).2.2.2.2 = zAll (xG X).1.1 (xG X).1.2.2.2 (xG X).2.2.2.1) (hr : (xMeth X).sig.returnType = none) (hm : (xC X).maxLocals = 2) (hout : ∀ x ∈ (xC X).exceptionTable.toList, False) (o : Nat) (s : XS) : Sim X xI (retCT X eU 4 xI) 0 [(0, .ref o)] [] s (x3_statement o s) := by
  have hzz := O.hst
  rw [hg] at hzz
  unfold x3_statement
  refine s_aload_n O 0 rfl rfl dX3_statement_0 ?_
  refine x_callV O (enc2 := eI) (ci := 3) (av := []) (rest := []) 0 (fun v0 t0 h0 => mt_X3_next (xL X) (xG X) hfl hg o _ t0 v0 h0) (lw_V q375 q377 qs6 q137 q378) hv_X3_next ⟨Nat.le_of_ble_eq_true rfl, Nat.le_of_ble_eq_true rfl⟩ rfl rfl (Nat.le_of_ble_eq_true rfl) dX3_statement_1 (fun v1 s2 => ?_)
  refine s_istore_n O (L' := [(1, .int v1), (0, .ref o)]) hm (by decide) rfl rfl dX3_statement_4 ?_
  refine s_aload_n O 1 rfl rfl dX3_statement_5 ?_
  refine x_ldcS O (j := 6) (zt_1 hzz) dX3_statement_6 ?_
  refine s_nmQ (fun r3 => ?_)
  refine s_dr (fun p4 hp5 => ?_)
  subst hp5
  refine x_callV O (enc2 := eI) (ci := 3) (av := [.ref p4]) (rest := []) 1 (fun v0 t0 h0 => mt_X3_takes (xL X) (xG X) hfl hg o p4 _ t0 v0 h0) (lw_V q367 q369 qs4 q137 q370) hv_X3_takes ⟨Nat.le_of_ble_eq_true rfl, Nat.le_of_ble_eq_true rfl⟩ rfl rfl (Nat.le_of_ble_eq_true rfl) dX3_statement_8 (fun v6 s7 => ?_)
  refine s_if_eq O (tgt := 28) dX3_statement_11 (by decide) ?_ ?_
  · refine s_aload_n O 1 rfl rfl dX3_statement_28 ?_
    refine x_callV O (enc2 := eR) (ci := 3) (av := []) (rest := []) 0 (fun v0 t0 h0 => mt_X3_wordHere (xL X) (xG X) hfl hg o _ t0 v0 h0) (lw_V q371 q373 qs5 q137 q374) hv_X3_wordHere ⟨Nat.le_of_ble_eq_true rfl, Nat.le_of_ble_eq_true rfl⟩ rfl rfl (Nat.le_of_ble_eq_true rfl) dX3_statement_29 (fun r8 s9 => ?_)
    refine x_ldcS O (j := 7) (zt_2 hzz) dX3_statement_32 ?_
    refine s_nmQ (fun r10 => ?_)
    refine s_dr (fun p11 hp12 => ?_)
    subst hp12
    refine s_dr (fun p13 hp14 => ?_)
    subst hp14
    refine x_callV O (enc2 := eI) (ci := 10) (av := [.ref p11]) (rest := []) 1 (fun v0 t0 h0 => mt_J5_equals (xL X) (xG X) hfl hg p13 p11 _ t0 v0 h0) (lw_V q574 q575 q576 q140 q577) hv_J5_equals ⟨Nat.le_of_ble_eq_true rfl, Nat.le_of_ble_eq_true rfl⟩ rfl rfl (Nat.le_of_ble_eq_true rfl) dX3_statement_34 (fun v15 s16 => ?_)
    refine s_if_eq O (tgt := 71) dX3_statement_37 (by decide) ?_ ?_
    · refine s_aload_n O 1 rfl rfl dX3_statement_71 ?_
      refine x_callV O (enc2 := eR) (ci := 3) (av := []) (rest := []) 0 (fun v0 t0 h0 => mt_X3_unlike (xL X) (xG X) hfl hg o _ t0 v0 h0) (lw_V q604 q606 qs11 q137 q607) hv_X3_unlike ⟨Nat.le_of_ble_eq_true rfl, Nat.le_of_ble_eq_true rfl⟩ rfl rfl (Nat.le_of_ble_eq_true rfl) dX3_statement_72 (fun r17 s18 => ?_)
      refine s_dr (fun p19 hp20 => ?_)
      subst hp20
      refine x_athrow O (ci := 4) rfl dX3_statement_75 ?_
      exact sx_out O hout
    · refine s_aload_n O 1 rfl rfl dX3_statement_40 ?_
      refine x_get O (ci := 3) (T := TX3) (N := 8) in_X3 rfl 6 (by decide) q343 (fun _ h => h) dX3_statement_41 (fun v0 => ?_)
      refine s_vI (fun u21 => ?_)
      refine s_if_le O (tgt := 57) dX3_statement_44 (by decide) ?_ ?_
      · refine s_aload_n O 1 rfl rfl dX3_statement_57 ?_
        refine x_ldcS O (j := 7) (zt_2 hzz) dX3_statement_58 ?_
        refine s_nmQ (fun r22 => ?_)
        refine s_dr (fun p23 hp24 => ?_)
        subst hp24
        refine x_callV O (enc2 := eI) (ci := 3) (av := [.ref p23]) (rest := []) 1 (fun v0 t0 h0 => mt_X3_takes (xL X) (xG X) hfl hg o p23 _ t0 v0 h0) (lw_V q367 q369 qs4 q137 q370) hv_X3_takes ⟨Nat.le_of_ble_eq_true rfl, Nat.le_of_ble_eq_true rfl⟩ rfl rfl (Nat.le_of_ble_eq_true rfl) dX3_statement_60 (fun v25 s26 => ?_)
        refine s_pop O rfl dX3_statement_63 ?_
        refine s_aload_n O 1 rfl rfl dX3_statement_64 ?_
        refine x_callVT O (enc2 := eU) (ci := 3) (cj := 4) (av := []) (rest := []) 0 (fun v0 t0 h0 => mt_X3_rowRead (xL X) (xG X) hfl hg o _ t0 v0 h0) (lw_V q767 q769 qs19 q137 q770) hv_X3_rowRead ⟨Nat.le_of_ble_eq_true rfl, Nat.le_of_ble_eq_true rfl⟩ rfl rfl (Nat.le_of_ble_eq_true rfl) dX3_statement_65 (fun v27 s28 => ?_) (fun p29 s30 => ?_)
        · refine s_goto O (tgt := 76) dX3_statement_68 (by decide) ?_
          exact s_returnT O hr rfl dX3_statement_76
        · exact sx_out O hout
      · refine x_new O (ci := 4) (T := TX4) (N := 8) (fs := dfX4) in_X4 tyX4 tyX4_ok rfl 8 q608 q609 q150 rfl dfX4_ok dX3_statement_47 (fun p31 s32 => ?_)
        refine s_dup O rfl dX3_statement_50 ?_
        refine s_iconst O (x := 3) (by decide) dX3_statement_51 ?_
        refine s_iload_n O 0 rfl rfl dX3_statement_52 ?_
        refine x_callI O (enc2 := eU) (av := [.int 3, .int v1]) (rest := [.ref p31]) 2 (fun v0 t0 h0 => mt_X4_init (xL X) (xG X) hfl hg p31 3 v1 _ t0 v0 h0) q648 q150 q646 q647 rfl hd_X4_init ⟨Nat.le_of_ble_eq_true rfl, Nat.le_of_ble_eq_true rfl⟩ rfl (Nat.le_of_ble_eq_true rfl) dX3_statement_53 (fun v33 s34 => ?_)
        refine x_athrow O (ci := 4) rfl dX3_statement_56 ?_
        exact sx_out O hout
  · refine Sim.sub (L' := [(0, .ref o)]) [1] rfl ?_
    refine s_while (A := Unit) (B := (Unit) ⊕ (Nat)) (La := fun _ => [(0, .ref o)]) (We := fun bb0 s42 => match bb0 with | .inl b14 => xWX X 25 [] [] ((xI) s42) | .inr b14 => ∀ (pc9 : Nat) (L9 : List (Nat × Value)) (rest9 : List Value), xVX X pc9 L9 rest9 ((xI) s42) b14 4) rfl rfl ?_ ?_
    · intro Cl hn he a14 s35
      unfold x3_statement_s14
      refine s_aload_n O 0 rfl rfl dX3_statement_14 ?_
      refine x_callVT O (enc2 := eU) (ci := 3) (cj := 4) (av := []) (rest := []) 0 (fun v0 t0 h0 => mt_X3_monoRead (xL X) (xG X) hfl hg o _ t0 v0 h0) (lw_V q686 q688 qs15 q137 q689) hv_X3_monoRead ⟨Nat.le_of_ble_eq_true rfl, Nat.le_of_ble_eq_true rfl⟩ rfl rfl (Nat.le_of_ble_eq_true rfl) dX3_statement_15 (fun v36 s37 => ?_) (fun p40 s41 => ?_)
      · refine s_aload_n O 0 rfl rfl dX3_statement_18 ?_
        refine x_callV O (enc2 := eI) (ci := 3) (av := []) (rest := []) 0 (fun v0 t0 h0 => mt_X3_takesEnd (xL X) (xG X) hfl hg o _ t0 v0 h0) (lw_V q677 q679 qs13 q137 q680) hv_X3_takesEnd ⟨Nat.le_of_ble_eq_true rfl, Nat.le_of_ble_eq_true rfl⟩ rfl rfl (Nat.le_of_ble_eq_true rfl) dX3_statement_19 (fun v38 s39 => ?_)
        refine s_if_eq O (tgt := 14) dX3_statement_22 (by decide) ?_ ?_
        · exact Sim.ret (hn _ _)
        · refine Sim.sub (L' := []) [] rfl ?_
          exact Sim.ret (he _ _)
      · exact SimX.ret (fun hc0 => he _ _ hc0 _ _ _)
    · intro bb0 s42
      rcases bb0 with b14 | b14
      · show Sim X (xI) (retCT X eU 4 xI) 25 [] [] s42 _
        dsimp only
        refine s_goto O (tgt := 76) dX3_statement_25 (by decide) ?_
        exact s_returnT O hr rfl dX3_statement_76
      · dsimp only
        intro v9 t9 hr9 hc9 pc9 L9 rest9
        exact sx_out O hout v9 t9 hr9 hc9
theorem mt_X3_statement (l : Launch) (G : XG) (hfl : l.stackTraces = false) (hg : G.2.2.2.2 = zAll G.1.1 G.1.2.2.2 G.2.2.2.1) (o : Nat) (s t : XS) (v : (Unit) ⊕ Nat) (h : x3_statement o s = some (v, t)) : xMetT l yX3_statement (ws_ yX3_statement cX3_statement 2 none) 8 216 G (xI s) [.ref o] eU 4 v (xI t) :=
  xMetT_of (E := xI) (enc := eU) (by decide +kernel) (Nat.le_of_ble_eq_true rfl) (fun X hl hG O hr hm hout => by subst hl; subst hG; exact wk_X3_statement O hfl hg hr hm hout o s) h
theorem hd_J14_init : yJ14_init.cls ≠ "java/lang/invoke/MethodHandle" ∧ yJ14_init.cls ≠ "java/lang/invoke/VarHandle" ∧ (parseMethodDescriptor yJ14_init.desc).map (fun d => d.parameters.length) = some 1 := by decide +kernel
theorem hv_J14_init : yJ14_init.cls = RJ14 ∧ yJ14_init.cls ≠ "java/lang/invoke/MethodHandle" ∧ yJ14_init.cls ≠ "java/lang/invoke/VarHandle" ∧ (parseMethodDescriptor yJ14_init.desc).map (fun d => d.parameters.length) = some 1 := ⟨rfl, hd_J14_init⟩
set_option maxHeartbeats 4000000 in
set_option maxRecDepth 100000 in
theorem wk_J14_init {X : XC} (O : XOk X cJ14_init RJ14 1 20) (hfl : (xL X).stackTraces = false) (hg : (xG X).2.2.2.2 = zAll (xG X).1.1 (xG X).1.2.2.2 (xG X).2.2.2.1) (hr : (xMeth X).sig.returnType = none) (hm : (xC X).maxLocals = 2) (hinit : (xMeth X).name = "<init>") (o : Nat) (x1 : Nat) (s : XS) : Sim X xI (retC X eU xI) 0 [(0, .ref o), (1, .ref x1)] [] s (j14_init o x1 s) := by
  have hzz := O.hst
  rw [hg] at hzz
  unfold j14_init
  refine s_aload_n O 0 rfl rfl dJ14_init_0 ?_
  refine s_aload_n O 1 rfl rfl dJ14_init_1 ?_
  refine x_putF O (ci := 8) (T := TJ14) (N := 4) (ty := (.object "java/util/ArrayList")) in_J14 tyJ14 tyJ14_ok nmJ14 rfl 3 (by decide) q796 (fun _ h => h) rfl hinit rfl (by decide +kernel) rfl rfl dJ14_init_2 (fun s1 => ?_)
  refine s_aload_n O 0 rfl rfl dJ14_init_5 ?_
  refine x_objInit O q792 q163 q164 ⟨Nat.le_of_ble_eq_true rfl, Nat.le_of_ble_eq_true rfl⟩ (Nat.le_of_ble_eq_true rfl) dJ14_init_6 ?_
  refine s_aload_n O 0 rfl rfl dJ14_init_9 ?_
  refine s_iconst O (x := (-1)) (by decide) dJ14_init_10 ?_
  refine x_put O (ci := 8) (T := TJ14) (N := 4) (ty := .int) in_J14 tyJ14 tyJ14_ok nmJ14 rfl 1 (by decide) q794 (fun _ h => h) rfl (by decide +kernel) rfl rfl dJ14_init_11 (fun s2 => ?_)
  refine s_aload_n O 0 rfl rfl dJ14_init_14 ?_
  refine s_aload_n O 0 rfl rfl dJ14_init_15 ?_
  refine x_get O (ci := 8) (T := TJ14) (N := 4) in_J14 rfl 3 (by decide) q796 (fun _ h => h) dJ14_init_16 (fun v0 => ?_)
  refine s_vR (fun r3 => ?_)
  refine s_dr (fun p4 hp5 => ?_)
  subst hp5
  refine x_get O (ci := 7) (T := TJ2) (N := 3) in_J2 rfl 0 (by decide) q193 (u_same (O.hts _ q194)) dJ14_init_19 (fun v0 => ?_)
  refine s_vI (fun u6 => ?_)
  refine x_put O (ci := 8) (T := TJ14) (N := 4) (ty := .int) in_J14 tyJ14 tyJ14_ok nmJ14 rfl 2 (by decide) q795 (fun _ h => h) rfl (by decide +kernel) rfl rfl dJ14_init_22 (fun s7 => ?_)
  exact s_return O hr rfl dJ14_init_25
theorem mt_J14_init (l : Launch) (G : XG) (hfl : l.stackTraces = false) (hg : G.2.2.2.2 = zAll G.1.1 G.1.2.2.2 G.2.2.2.1) (o : Nat) (x1 : Nat) (s t : XS) (v : Unit) (h : j14_init o x1 s = some (v, t)) : xMet l yJ14_init (ws_ yJ14_init cJ14_init 2 none) 1 20 G (xI s) [.ref o, .ref x1] (eU v) (xI t) :=
  xMet_ofN rfl (E := xI) (enc := eU) (by decide +kernel) (Nat.le_of_ble_eq_true rfl) (fun X hl hG O hr hm hinit => by subst hl; subst hG; exact wk_J14_init O hfl hg hr hm hinit o x1 s) h
theorem hd_J2_iterator : yJ2_iterator.cls ≠ "java/lang/invoke/MethodHandle" ∧ yJ2_iterator.cls ≠ "java/lang/invoke/VarHandle" ∧ (parseMethodDescriptor yJ2_iterator.desc).map (fun d => d.parameters.length) = some 0 := by decide +kernel
theorem hv_J2_iterator : yJ2_iterator.cls = RJ2 ∧ yJ2_iterator.cls ≠ "java/lang/invoke/MethodHandle" ∧ yJ2_iterator.cls ≠ "java/lang/invoke/VarHandle" ∧ (parseMethodDescriptor yJ2_iterator.desc).map (fun d => d.parameters.length) = some 0 := ⟨rfl, hd_J2_iterator⟩
theorem hu_J2_iterator : yJ2_iterator.name ≠ "<init>" ∧ (parseMethodDescriptor yJ2_iterator.desc).map (fun d => d.parameters.length) = some 0 := ⟨by decide +kernel, hd_J2_iterator.2.2⟩
theorem hf_J2_iterator : (⟨"java/util/List", "iterator", "()Ljava/util/Iterator;"⟩ : MethodName).cls ≠ "java/lang/invoke/MethodHandle" ∧ (⟨"java/util/List", "iterator", "()Ljava/util/Iterator;"⟩ : MethodName).cls ≠ "java/lang/invoke/VarHandle" ∧ (parseMethodDescriptor (⟨"java/util/List", "iterator", "()Ljava/util/Iterator;"⟩ : MethodName).desc).map (fun d => d.parameters.length) = some 0 := by decide +kernel
set_option maxHeartbeats 4000000 in
set_option maxRecDepth 100000 in
theorem wk_J2_iterator {X : XC} (O : XOk X cJ2_iterator RJ2 2 41) (hfl : (xL X).stackTraces = false) (hg : (xG X).2.2.2.2 = zAll (xG X).1.1 (xG X).1.2.2.2 (xG X).2.2.2.1) (hr : (xMeth X).sig.returnType = (some (.object "java/util/Iterator"))) (hm : (xC X).maxLocals = 1) (o : Nat) (s : XS) : Sim X xI (retC X eR xI) 0 [(0, .ref o)] [] s (j2_iterator o s) := by
  have hzz := O.hst
  rw [hg] at hzz
  unfold j2_iterator
  refine x_new O (ci := 8) (T := TJ14) (N := 4) (fs := dfJ14) in_J14 tyJ14 tyJ14_ok rfl 4 q787 q788 q152 rfl dfJ14_ok dJ2_iterator_0 (fun p1 s2 => ?_)
  refine s_dup O rfl dJ2_iterator_3 ?_
  refine s_aload_n O 0 rfl rfl dJ2_iterator_4 ?_
  refine x_callI O (enc2 := eU) (av := [.ref o]) (rest := [.ref p1]) 1 (fun v0 t0 h0 => mt_J14_init (xL X) (xG X) hfl hg p1 o _ t0 v0 h0) q791 q152 q789 q790 rfl hd_J14_init ⟨Nat.le_of_ble_eq_true rfl, Nat.le_of_ble_eq_true rfl⟩ rfl (Nat.le_of_ble_eq_true rfl) dJ2_iterator_5 (fun v3 s4 => ?_)
  exact s_areturnQ O (r := (some p1)) hr (Or.inl ⟨_, rfl⟩) rfl dJ2_iterator_8
theorem mt_J2_iterator (l : Launch) (G : XG) (hfl : l.stackTraces = false) (hg : G.2.2.2.2 = zAll G.1.1 G.1.2.2.2 G.2.2.2.1) (o : Nat) (s t : XS) (v : Option Nat) (h : j2_iterator o s = some (v, t)) : xMet l yJ2_iterator (ws_ yJ2_iterator cJ2_iterator 1 (some (.object "java/util/Iterator"))) 2 41 G (xI s) [.ref o] (eR v) (xI t) :=
  xMet_of (E := xI) (enc := eR) (by decide +kernel) (Nat.le_of_ble_eq_true rfl) (fun X hl hG O hr hm => by subst hl; subst hG; exact wk_J2_iterator O hfl hg hr hm o s) h
theorem hd_J14_hasNext : yJ14_hasNext.cls ≠ "java/lang/invoke/MethodHandle" ∧ yJ14_hasNext.cls ≠ "java/lang/invoke/VarHandle" ∧ (parseMethodDescriptor yJ14_hasNext.desc).map (fun d => d.parameters.length) = some 0 := by decide +kernel
theorem hv_J14_hasNext : yJ14_hasNext.cls = RJ14 ∧ yJ14_hasNext.cls ≠ "java/lang/invoke/MethodHandle" ∧ yJ14_hasNext.cls ≠ "java/lang/invoke/VarHandle" ∧ (parseMethodDescriptor yJ14_hasNext.desc).map (fun d => d.parameters.length) = some 0 := ⟨rfl, hd_J14_hasNext⟩
theorem hu_J14_hasNext : yJ14_hasNext.name ≠ "<init>" ∧ (parseMethodDescriptor yJ14_hasNext.desc).map (fun d => d.parameters.length) = some 0 := ⟨by decide +kernel, hd_J14_hasNext.2.2⟩
theorem hf_J14_hasNext : (⟨"java/util/Iterator", "hasNext", "()Z"⟩ : MethodName).cls ≠ "java/lang/invoke/MethodHandle" ∧ (⟨"java/util/Iterator", "hasNext", "()Z"⟩ : MethodName).cls ≠ "java/lang/invoke/VarHandle" ∧ (parseMethodDescriptor (⟨"java/util/Iterator", "hasNext", "()Z"⟩ : MethodName).desc).map (fun d => d.parameters.length) = some 0 := by decide +kernel
set_option maxHeartbeats 4000000 in
set_option maxRecDepth 100000 in
theorem wk_J14_hasNext {X : XC} (O : XOk X cJ14_hasNext RJ14 0 0) (hfl : (xL X).stackTraces = false) (hg : (xG X).2.2.2.2 = zAll (xG X).1.1 (xG X).1.2.2.2 (xG X).2.2.2.1) (hr : (xMeth X).sig.returnType = (some .boolean)) (hm : (xC X).maxLocals = 1) (o : Nat) (s : XS) : Sim X xI (retC X eI xI) 0 [(0, .ref o)] [] s (j14_hasNext o s) := by
  have hzz := O.hst
  rw [hg] at hzz
  unfold j14_hasNext
  refine s_aload_n O 0 rfl rfl dJ14_hasNext_0 ?_
  refine x_get O (ci := 8) (T := TJ14) (N := 4) in_J14 rfl 0 (by decide) q793 (fun _ h => h) dJ14_hasNext_1 (fun v0 => ?_)
  refine s_vI (fun u1 => ?_)
  refine s_aload_n O 0 rfl rfl dJ14_hasNext_4 ?_
  refine x_get O (ci := 8) (T := TJ14) (N := 4) in_J14 rfl 3 (by decide) q796 (fun _ h => h) dJ14_hasNext_5 (fun v0 => ?_)
  refine s_vR (fun r2 => ?_)
  refine s_dr (fun p3 hp4 => ?_)
  subst hp4
  refine x_getN O (ci := 7) (T := TJ2) (N := 3) in_J2 rfl 2 (by decide) (zf_q190 hzz) (fun _ h => h) dJ14_hasNext_8 (fun v0 => ?_)
  refine s_vI (fun u5 => ?_)
  refine s_icmp_eq O (tgt := 18) dJ14_hasNext_11 (by decide) ?_ ?_
  · refine s_iconst O (x := 0) (by decide) dJ14_hasNext_18 ?_
    exact s_zreturnK O hr rfl rfl dJ14_hasNext_19
  · refine s_iconst O (x := 1) (by decide) dJ14_hasNext_14 ?_
    refine s_goto O (tgt := 19) dJ14_hasNext_15 (by decide) ?_
    exact s_zreturnK O hr rfl rfl dJ14_hasNext_19
theorem mt_J14_hasNext (l : Launch) (G : XG) (hfl : l.stackTraces = false) (hg : G.2.2.2.2 = zAll G.1.1 G.1.2.2.2 G.2.2.2.1) (o : Nat) (s t : XS) (v : Int32) (h : j14_hasNext o s = some (v, t)) : xMet l yJ14_hasNext (ws_ yJ14_hasNext cJ14_hasNext 1 (some .boolean)) 0 0 G (xI s) [.ref o] (eI v) (xI t) :=
  xMet_of (E := xI) (enc := eI) (by decide +kernel) (Nat.le_of_ble_eq_true rfl) (fun X hl hG O hr hm => by subst hl; subst hG; exact wk_J14_hasNext O hfl hg hr hm o s) h
theorem hd_J14_checkForComodification : yJ14_checkForComodification.cls ≠ "java/lang/invoke/MethodHandle" ∧ yJ14_checkForComodification.cls ≠ "java/lang/invoke/VarHandle" ∧ (parseMethodDescriptor yJ14_checkForComodification.desc).map (fun d => d.parameters.length) = some 0 := by decide +kernel
theorem hv_J14_checkForComodification : yJ14_checkForComodification.cls = RJ14 ∧ yJ14_checkForComodification.cls ≠ "java/lang/invoke/MethodHandle" ∧ yJ14_checkForComodification.cls ≠ "java/lang/invoke/VarHandle" ∧ (parseMethodDescriptor yJ14_checkForComodification.desc).map (fun d => d.parameters.length) = some 0 := ⟨rfl, hd_J14_checkForComodification⟩
theorem hu_J14_checkForComodification : yJ14_checkForComodification.name ≠ "<init>" ∧ (parseMethodDescriptor yJ14_checkForComodification.desc).map (fun d => d.parameters.length) = some 0 := ⟨by decide +kernel, hd_J14_checkForComodification.2.2⟩
set_option maxHeartbeats 4000000 in
set_option maxRecDepth 100000 in
theorem wk_J14_checkForComodification {X : XC} (O : XOk X cJ14_checkForComodification RJ14 0 0) (hfl : (xL X).stackTraces = false) (hg : (xG X).2.2.2.2 = zAll (xG X).1.1 (xG X).1.2.2.2 (xG X).2.2.2.1) (hr : (xMeth X).sig.returnType = none) (hm : (xC X).maxLocals = 1) (o : Nat) (s : XS) : Sim X xI (retC X eU xI) 0 [(0, .ref o)] [] s (j14_checkForComodification o s) := by
  have hzz := O.hst
  rw [hg] at hzz
  unfold j14_checkForComodification
  refine s_aload_n O 0 rfl rfl dJ14_checkForComodification_0 ?_
  refine x_get O (ci := 8) (T := TJ14) (N := 4) in_J14 rfl 3 (by decide) q796 (fun _ h => h) dJ14_checkForComodification_1 (fun v0 => ?_)
  refine s_vR (fun r1 => ?_)
  refine s_dr (fun p2 hp3 => ?_)
  subst hp3
  refine x_get O (ci := 7) (T := TJ2) (N := 3) in_J2 rfl 0 (by decide) q193 (u_same (O.hts _ q194)) dJ14_checkForComodification_4 (fun v0 => ?_)
  refine s_vI (fun u4 => ?_)
  refine s_aload_n O 0 rfl rfl dJ14_checkForComodification_7 ?_
  refine x_get O (ci := 8) (T := TJ14) (N := 4) in_J14 rfl 2 (by decide) q795 (fun _ h => h) dJ14_checkForComodification_8 (fun v0 => ?_)
  refine s_vI (fun u5 => ?_)
  refine s_icmp_eq O (tgt := 22) dJ14_checkForComodification_11 (by decide) ?_ ?_
  · exact s_return O hr rfl dJ14_checkForComodification_22
  · exact Sim.none
theorem mt_J14_checkForComodification (l : Launch) (G : XG) (hfl : l.stackTraces = false) (hg : G.2.2.2.2 = zAll G.1.1 G.1.2.2.2 G.2.2.2.1) (o : Nat) (s t : XS) (v : Unit) (h : j14_checkForComodification o s = some (v, t)) : xMet l yJ14_checkForComodification (ws_ yJ14_checkForComodification cJ14_checkForComodification 1 none) 0 0 G (xI s) [.ref o] (eU v) (xI t) :=
  xMet_of (E := xI) (enc := eU) (by decide +kernel) (Nat.le_of_ble_eq_true rfl) (fun X hl hG O hr hm => by subst hl; subst hG; exact wk_J14_checkForComodification O hfl hg hr hm o s) h
theorem hd_J14_next : yJ14_next.cls ≠ "java/lang/invoke/MethodHandle" ∧ yJ14_next.cls ≠ "java/lang/invoke/VarHandle" ∧ (parseMethodDescriptor yJ14_next.desc).map (fun d => d.parameters.length) = some 0 := by decide +kernel
theorem hv_J14_next : yJ14_next.cls = RJ14 ∧ yJ14_next.cls ≠ "java/lang/invoke/MethodHandle" ∧ yJ14_next.cls ≠ "java/lang/invoke/VarHandle" ∧ (parseMethodDescriptor yJ14_next.desc).map (fun d => d.parameters.length) = some 0 := ⟨rfl, hd_J14_next⟩
theorem hu_J14_next : yJ14_next.name ≠ "<init>" ∧ (parseMethodDescriptor yJ14_next.desc).map (fun d => d.parameters.length) = some 0 := ⟨by decide +kernel, hd_J14_next.2.2⟩
theorem hf_J14_next : (⟨"java/util/Iterator", "next", "()Ljava/lang/Object;"⟩ : MethodName).cls ≠ "java/lang/invoke/MethodHandle" ∧ (⟨"java/util/Iterator", "next", "()Ljava/lang/Object;"⟩ : MethodName).cls ≠ "java/lang/invoke/VarHandle" ∧ (parseMethodDescriptor (⟨"java/util/Iterator", "next", "()Ljava/lang/Object;"⟩ : MethodName).desc).map (fun d => d.parameters.length) = some 0 := by decide +kernel
set_option maxHeartbeats 4000000 in
set_option maxRecDepth 100000 in
theorem wk_J14_next {X : XC} (O : XOk X cJ14_next RJ14 1 20) (hfl : (xL X).stackTraces = false) (hg : (xG X).2.2.2.2 = zAll (xG X).1.1 (xG X).1.2.2.2 (xG X).2.2.2.1) (hr : (xMeth X).sig.returnType = (some (.object "java/lang/Object"))) (hm : (xC X).maxLocals = 3) (o : Nat) (s : XS) : Sim X xI (retC X eR xI) 0 [(0, .ref o)] [] s (j14_next o s) := by
  have hzz := O.hst
  rw [hg] at hzz
  unfold j14_next
  refine s_aload_n O 0 rfl rfl dJ14_next_0 ?_
  refine x_callV O (enc2 := eU) (ci := 8) (av := []) (rest := []) 0 (fun v0 t0 h0 => mt_J14_checkForComodification (xL X) (xG X) hfl hg o _ t0 v0 h0) (lw_V q825 q826 q827 q152 q828) hv_J14_checkForComodification ⟨Nat.le_of_ble_eq_true rfl, Nat.le_of_ble_eq_true rfl⟩ rfl rfl (Nat.le_of_ble_eq_true rfl) dJ14_next_1 (fun v1 s2 => ?_)
  refine s_aload_n O 0 rfl rfl dJ14_next_4 ?_
  refine x_get O (ci := 8) (T := TJ14) (N := 4) in_J14 rfl 0 (by decide) q793 (fun _ h => h) dJ14_next_5 (fun v0 => ?_)
  refine s_vI (fun u3 => ?_)
  refine s_istore_n O (L' := [(1, .int u3), (0, .ref o)]) hm (by decide) rfl rfl dJ14_next_8 ?_
  refine s_iload_n O 0 rfl rfl dJ14_next_9 ?_
  refine s_aload_n O 1 rfl rfl dJ14_next_10 ?_
  refine x_get O (ci := 8) (T := TJ14) (N := 4) in_J14 rfl 3 (by decide) q796 (fun _ h => h) dJ14_next_11 (fun v0 => ?_)
  refine s_vR (fun r4 => ?_)
  refine s_dr (fun p5 hp6 => ?_)
  subst hp6
  refine x_getN O (ci := 7) (T := TJ2) (N := 3) in_J2 rfl 2 (by decide) (zf_q190 hzz) (fun _ h => h) dJ14_next_14 (fun v0 => ?_)
  refine s_vI (fun u7 => ?_)
  refine s_icmp_lt O (tgt := 28) dJ14_next_17 (by decide) ?_ ?_
  · refine s_aload_n O 1 rfl rfl dJ14_next_28 ?_
    refine x_get O (ci := 8) (T := TJ14) (N := 4) in_J14 rfl 3 (by decide) q796 (fun _ h => h) dJ14_next_29 (fun v0 => ?_)
    refine s_vR (fun r8 => ?_)
    refine s_dr (fun p9 hp10 => ?_)
    subst hp10
    refine x_get O (ci := 7) (T := TJ2) (N := 3) in_J2 rfl 1 (by decide) q189 (fun _ h => h) dJ14_next_32 (fun v0 => ?_)
    refine s_vR (fun r11 => ?_)
    refine s_astore_nQ O (r := r11) (L' := [(1, .int u3), (0, .ref o)]) rfl hm (by decide) (fun _ => rfl) dJ14_next_35 ?_
    refine s_iload_n O 1 rfl rfl dJ14_next_36 ?_
    refine s_aload_nQ O 0 rfl rfl dJ14_next_37 ?_
    refine s_dr (fun p12 hp13 => ?_)
    subst hp13
    refine x_alen O dJ14_next_38 (fun u14 => ?_)
    refine s_icmp_lt O (tgt := 50) dJ14_next_39 (by decide) ?_ ?_
    · refine s_aload_n O 2 rfl rfl dJ14_next_50 ?_
      refine s_iload_n O 1 rfl rfl dJ14_next_51 ?_
      refine s_iconst O (x := 1) (by decide) dJ14_next_52 ?_
      refine s_iadd O dJ14_next_53 ?_
      refine x_put O (ci := 8) (T := TJ14) (N := 4) (ty := .int) in_J14 tyJ14 tyJ14_ok nmJ14 rfl 0 (by decide) q793 (fun _ h => h) rfl (by decide +kernel) rfl rfl dJ14_next_54 (fun s15 => ?_)
      refine s_aload_n O 0 rfl rfl dJ14_next_57 ?_
      refine s_aload_n O 2 rfl rfl dJ14_next_58 ?_
      refine s_iload_n O 1 rfl rfl dJ14_next_59 ?_
      refine s_dup_x1 O rfl rfl dJ14_next_60 ?_
      refine x_put O (ci := 8) (T := TJ14) (N := 4) (ty := .int) in_J14 tyJ14 tyJ14_ok nmJ14 rfl 1 (by decide) q794 (fun _ h => h) rfl (by decide +kernel) rfl rfl dJ14_next_61 (fun s16 => ?_)
      refine x_aald O (t := 4) rfl rfl dJ14_next_64 (fun r17 => ?_)
      exact s_areturnQ O (r := r17) hr (Or.inl ⟨_, rfl⟩) rfl dJ14_next_65
    · exact Sim.none
  · exact Sim.none
theorem mt_J14_next (l : Launch) (G : XG) (hfl : l.stackTraces = false) (hg : G.2.2.2.2 = zAll G.1.1 G.1.2.2.2 G.2.2.2.1) (o : Nat) (s t : XS) (v : Option Nat) (h : j14_next o s = some (v, t)) : xMet l yJ14_next (ws_ yJ14_next cJ14_next 3 (some (.object "java/lang/Object"))) 1 20 G (xI s) [.ref o] (eR v) (xI t) :=
  xMet_of (E := xI) (enc := eR) (by decide +kernel) (Nat.le_of_ble_eq_true rfl) (fun X hl hG O hr hm => by subst hl; subst hG; exact wk_J14_next O hfl hg hr hm o s) h
theorem hd_J11_checkIndex : yJ11_checkIndex.cls ≠ "java/lang/invoke/MethodHandle" ∧ yJ11_checkIndex.cls ≠ "java/lang/invoke/VarHandle" ∧ (parseMethodDescriptor yJ11_checkIndex.desc).map (fun d => d.parameters.length) = some 3 := by decide +kernel
theorem hv_J11_checkIndex : yJ11_checkIndex.cls = RJ11 ∧ yJ11_checkIndex.cls ≠ "java/lang/invoke/MethodHandle" ∧ yJ11_checkIndex.cls ≠ "java/lang/invoke/VarHandle" ∧ (parseMethodDescriptor yJ11_checkIndex.desc).map (fun d => d.parameters.length) = some 3 := ⟨rfl, hd_J11_checkIndex⟩
theorem hu_J11_checkIndex : yJ11_checkIndex.name ≠ "<init>" ∧ (parseMethodDescriptor yJ11_checkIndex.desc).map (fun d => d.parameters.length) = some 3 := ⟨by decide +kernel, hd_J11_checkIndex.2.2⟩
set_option maxHeartbeats 4000000 in
set_option maxRecDepth 100000 in
theorem wk_J11_checkIndex {X : XC} (O : XOk X cJ11_checkIndex RJ11 0 0) (hfl : (xL X).stackTraces = false) (hg : (xG X).2.2.2.2 = zAll (xG X).1.1 (xG X).1.2.2.2 (xG X).2.2.2.1) (hr : (xMeth X).sig.returnType = (some .int)) (hm : (xC X).maxLocals = 3) (x0 : Int32) (x1 : Int32) (x2 : Option Nat) (s : XS) : Sim X xI (retC X eI xI) 0 [(0, .int x0), (1, .int x1), (2, va_rf x2)] [] s (j11_checkIndex x0 x1 x2 s) := by
  have hzz := O.hst
  rw [hg] at hzz
  unfold j11_checkIndex
  refine s_iload_n O 0 rfl rfl dJ11_checkIndex_0 ?_
  refine s_if_lt O (tgt := 9) dJ11_checkIndex_1 (by decide) ?_ ?_
  · exact Sim.none
  · refine s_iload_n O 0 rfl rfl dJ11_checkIndex_4 ?_
    refine s_iload_n O 1 rfl rfl dJ11_checkIndex_5 ?_
    refine s_icmp_lt O (tgt := 16) dJ11_checkIndex_6 (by decide) ?_ ?_
    · refine s_iload_n O 0 rfl rfl dJ11_checkIndex_16 ?_
      exact s_ireturn O hr rfl dJ11_checkIndex_17
    · exact Sim.none
theorem mt_J11_checkIndex (l : Launch) (G : XG) (hfl : l.stackTraces = false) (hg : G.2.2.2.2 = zAll G.1.1 G.1.2.2.2 G.2.2.2.1) (x0 : Int32) (x1 : Int32) (x2 : Option Nat) (s t : XS) (v : Int32) (h : j11_checkIndex x0 x1 x2 s = some (v, t)) : xMet l yJ11_checkIndex (ws_ yJ11_checkIndex cJ11_checkIndex 3 (some .int)) 0 0 G (xI s) [.int x0, .int x1, va_rf x2] (eI v) (xI t) :=
  xMet_of (E := xI) (enc := eI) (by decide +kernel) (by generalize x2 = zq0; cases zq0 <;> exact Nat.le_of_ble_eq_true rfl) (fun X hl hG O hr hm => by subst hl; subst hG; rw [show lv_args 0 [.int x0, .int x1, va_rf x2] = [(0, .int x0), (1, .int x1), (2, va_rf x2)] from (by generalize x2 = zq0; cases zq0 <;> rfl)]; exact wk_J11_checkIndex O hfl hg hr hm x0 x1 x2 s) h
theorem hd_J15_checkIndex : yJ15_checkIndex.cls ≠ "java/lang/invoke/MethodHandle" ∧ yJ15_checkIndex.cls ≠ "java/lang/invoke/VarHandle" ∧ (parseMethodDescriptor yJ15_checkIndex.desc).map (fun d => d.parameters.length) = some 2 := by decide +kernel
theorem hv_J15_checkIndex : yJ15_checkIndex.cls = RJ15 ∧ yJ15_checkIndex.cls ≠ "java/lang/invoke/MethodHandle" ∧ yJ15_checkIndex.cls ≠ "java/lang/invoke/VarHandle" ∧ (parseMethodDescriptor yJ15_checkIndex.desc).map (fun d => d.parameters.length) = some 2 := ⟨rfl, hd_J15_checkIndex⟩
theorem hu_J15_checkIndex : yJ15_checkIndex.name ≠ "<init>" ∧ (parseMethodDescriptor yJ15_checkIndex.desc).map (fun d => d.parameters.length) = some 2 := ⟨by decide +kernel, hd_J15_checkIndex.2.2⟩
set_option maxHeartbeats 4000000 in
set_option maxRecDepth 100000 in
theorem wk_J15_checkIndex {X : XC} (O : XOk X cJ15_checkIndex RJ15 1 22) (hfl : (xL X).stackTraces = false) (hg : (xG X).2.2.2.2 = zAll (xG X).1.1 (xG X).1.2.2.2 (xG X).2.2.2.1) (hr : (xMeth X).sig.returnType = (some .int)) (hm : (xC X).maxLocals = 2) (x0 : Int32) (x1 : Int32) (s : XS) : Sim X xI (retC X eI xI) 0 [(0, .int x0), (1, .int x1)] [] s (j15_checkIndex x0 x1 s) := by
  have hzz := O.hst
  rw [hg] at hzz
  unfold j15_checkIndex
  refine s_iload_n O 0 rfl rfl dJ15_checkIndex_0 ?_
  refine s_iload_n O 1 rfl rfl dJ15_checkIndex_1 ?_
  refine s_null O dJ15_checkIndex_2 ?_
  refine x_callS O (enc2 := eI) (av := [.int x0, .int x1, va_rf none]) (rest := []) 3 (fun v0 t0 h0 => mt_J11_checkIndex (xL X) (xG X) hfl hg x0 x1 none _ t0 v0 h0) (lw_S q852 q511 q147 q512) hd_J11_checkIndex ⟨Nat.le_of_ble_eq_true rfl, Nat.le_of_ble_eq_true rfl⟩ rfl (Nat.le_of_ble_eq_true rfl) dJ15_checkIndex_3 (fun v1 s2 => ?_)
  exact s_ireturn O hr rfl dJ15_checkIndex_6
theorem mt_J15_checkIndex (l : Launch) (G : XG) (hfl : l.stackTraces = false) (hg : G.2.2.2.2 = zAll G.1.1 G.1.2.2.2 G.2.2.2.1) (x0 : Int32) (x1 : Int32) (s t : XS) (v : Int32) (h : j15_checkIndex x0 x1 s = some (v, t)) : xMet l yJ15_checkIndex (ws_ yJ15_checkIndex cJ15_checkIndex 2 (some .int)) 1 22 G (xI s) [.int x0, .int x1] (eI v) (xI t) :=
  xMet_of (E := xI) (enc := eI) (by decide +kernel) (Nat.le_of_ble_eq_true rfl) (fun X hl hG O hr hm => by subst hl; subst hG; exact wk_J15_checkIndex O hfl hg hr hm x0 x1 s) h
theorem hd_J2_elementData : yJ2_elementData.cls ≠ "java/lang/invoke/MethodHandle" ∧ yJ2_elementData.cls ≠ "java/lang/invoke/VarHandle" ∧ (parseMethodDescriptor yJ2_elementData.desc).map (fun d => d.parameters.length) = some 1 := by decide +kernel
theorem hv_J2_elementData : yJ2_elementData.cls = RJ2 ∧ yJ2_elementData.cls ≠ "java/lang/invoke/MethodHandle" ∧ yJ2_elementData.cls ≠ "java/lang/invoke/VarHandle" ∧ (parseMethodDescriptor yJ2_elementData.desc).map (fun d => d.parameters.length) = some 1 := ⟨rfl, hd_J2_elementData⟩
theorem hu_J2_elementData : yJ2_elementData.name ≠ "<init>" ∧ (parseMethodDescriptor yJ2_elementData.desc).map (fun d => d.parameters.length) = some 1 := ⟨by decide +kernel, hd_J2_elementData.2.2⟩
set_option maxHeartbeats 4000000 in
set_option maxRecDepth 100000 in
theorem wk_J2_elementData {X : XC} (O : XOk X cJ2_elementData RJ2 0 0) (hfl : (xL X).stackTraces = false) (hg : (xG X).2.2.2.2 = zAll (xG X).1.1 (xG X).1.2.2.2 (xG X).2.2.2.1) (hr : (xMeth X).sig.returnType = (some (.object "java/lang/Object"))) (hm : (xC X).maxLocals = 2) (o : Nat) (x1 : Int32) (s : XS) : Sim X xI (retC X eR xI) 0 [(0, .ref o), (1, .int x1)] [] s (j2_elementData o x1 s) := by
  have hzz := O.hst
  rw [hg] at hzz
  unfold j2_elementData
  refine s_aload_n O 0 rfl rfl dJ2_elementData_0 ?_
  refine x_get O (ci := 7) (T := TJ2) (N := 3) in_J2 rfl 1 (by decide) q188 (fun _ h => h) dJ2_elementData_1 (fun v0 => ?_)
  refine s_vR (fun r1 => ?_)
  refine s_iload_n O 1 rfl rfl dJ2_elementData_4 ?_
  refine s_dr (fun p2 hp3 => ?_)
  subst hp3
  refine x_aald O (t := 4) rfl rfl dJ2_elementData_5 (fun r4 => ?_)
  exact s_areturnQ O (r := r4) hr (Or.inl ⟨_, rfl⟩) rfl dJ2_elementData_6
theorem mt_J2_elementData (l : Launch) (G : XG) (hfl : l.stackTraces = false) (hg : G.2.2.2.2 = zAll G.1.1 G.1.2.2.2 G.2.2.2.1) (o : Nat) (x1 : Int32) (s t : XS) (v : Option Nat) (h : j2_elementData o x1 s = some (v, t)) : xMet l yJ2_elementData (ws_ yJ2_elementData cJ2_elementData 2 (some (.object "java/lang/Object"))) 0 0 G (xI s) [.ref o, .int x1] (eR v) (xI t) :=
  xMet_of (E := xI) (enc := eR) (by decide +kernel) (Nat.le_of_ble_eq_true rfl) (fun X hl hG O hr hm => by subst hl; subst hG; exact wk_J2_elementData O hfl hg hr hm o x1 s) h
theorem hd_J2_get : yJ2_get.cls ≠ "java/lang/invoke/MethodHandle" ∧ yJ2_get.cls ≠ "java/lang/invoke/VarHandle" ∧ (parseMethodDescriptor yJ2_get.desc).map (fun d => d.parameters.length) = some 1 := by decide +kernel
theorem hv_J2_get : yJ2_get.cls = RJ2 ∧ yJ2_get.cls ≠ "java/lang/invoke/MethodHandle" ∧ yJ2_get.cls ≠ "java/lang/invoke/VarHandle" ∧ (parseMethodDescriptor yJ2_get.desc).map (fun d => d.parameters.length) = some 1 := ⟨rfl, hd_J2_get⟩
theorem hu_J2_get : yJ2_get.name ≠ "<init>" ∧ (parseMethodDescriptor yJ2_get.desc).map (fun d => d.parameters.length) = some 1 := ⟨by decide +kernel, hd_J2_get.2.2⟩
theorem hf_J2_get : (⟨"java/util/List", "get", "(I)Ljava/lang/Object;"⟩ : MethodName).cls ≠ "java/lang/invoke/MethodHandle" ∧ (⟨"java/util/List", "get", "(I)Ljava/lang/Object;"⟩ : MethodName).cls ≠ "java/lang/invoke/VarHandle" ∧ (parseMethodDescriptor (⟨"java/util/List", "get", "(I)Ljava/lang/Object;"⟩ : MethodName).desc).map (fun d => d.parameters.length) = some 1 := by decide +kernel
set_option maxHeartbeats 4000000 in
set_option maxRecDepth 100000 in
theorem wk_J2_get {X : XC} (O : XOk X cJ2_get RJ2 2 43) (hfl : (xL X).stackTraces = false) (hg : (xG X).2.2.2.2 = zAll (xG X).1.1 (xG X).1.2.2.2 (xG X).2.2.2.1) (hr : (xMeth X).sig.returnType = (some (.object "java/lang/Object"))) (hm : (xC X).maxLocals = 2) (o : Nat) (x1 : Int32) (s : XS) : Sim X xI (retC X eR xI) 0 [(0, .ref o), (1, .int x1)] [] s (j2_get o x1 s) := by
  have hzz := O.hst
  rw [hg] at hzz
  unfold j2_get
  refine s_iload_n O 1 rfl rfl dJ2_get_0 ?_
  refine s_aload_n O 0 rfl rfl dJ2_get_1 ?_
  refine x_get O (ci := 7) (T := TJ2) (N := 3) in_J2 rfl 2 (by decide) q191 (fun _ h => h) dJ2_get_2 (fun v0 => ?_)
  refine s_vI (fun u1 => ?_)
  refine x_callS O (enc2 := eI) (av := [.int x1, .int u1]) (rest := []) 2 (fun v0 t0 h0 => mt_J15_checkIndex (xL X) (xG X) hfl hg x1 u1 _ t0 v0 h0) (lw_S q849 q850 q153 q851) hd_J15_checkIndex ⟨Nat.le_of_ble_eq_true rfl, Nat.le_of_ble_eq_true rfl⟩ rfl (Nat.le_of_ble_eq_true rfl) dJ2_get_5 (fun v2 s3 => ?_)
  refine s_pop O rfl dJ2_get_8 ?_
  refine s_aload_n O 0 rfl rfl dJ2_get_9 ?_
  refine s_iload_n O 1 rfl rfl dJ2_get_10 ?_
  refine x_callV O (enc2 := eR) (ci := 7) (av := [.int x1]) (rest := []) 1 (fun v0 t0 h0 => mt_J2_elementData (xL X) (xG X) hfl hg o x1 _ t0 v0 h0) (lw_V q853 q854 q855 q135 q856) hv_J2_elementData ⟨Nat.le_of_ble_eq_true rfl, Nat.le_of_ble_eq_true rfl⟩ rfl rfl (Nat.le_of_ble_eq_true rfl) dJ2_get_11 (fun r4 s5 => ?_)
  exact s_areturnQ O (r := r4) hr (Or.inl ⟨_, rfl⟩) rfl dJ2_get_14
theorem mt_J2_get (l : Launch) (G : XG) (hfl : l.stackTraces = false) (hg : G.2.2.2.2 = zAll G.1.1 G.1.2.2.2 G.2.2.2.1) (o : Nat) (x1 : Int32) (s t : XS) (v : Option Nat) (h : j2_get o x1 s = some (v, t)) : xMet l yJ2_get (ws_ yJ2_get cJ2_get 2 (some (.object "java/lang/Object"))) 2 43 G (xI s) [.ref o, .int x1] (eR v) (xI t) :=
  xMet_of (E := xI) (enc := eR) (by decide +kernel) (Nat.le_of_ble_eq_true rfl) (fun X hl hG O hr hm => by subst hl; subst hG; exact wk_J2_get O hfl hg hr hm o x1 s) h
theorem hd_X5_fits : yX5_fits.cls ≠ "java/lang/invoke/MethodHandle" ∧ yX5_fits.cls ≠ "java/lang/invoke/VarHandle" ∧ (parseMethodDescriptor yX5_fits.desc).map (fun d => d.parameters.length) = some 1 := by decide +kernel
theorem hv_X5_fits : yX5_fits.cls = RX5 ∧ yX5_fits.cls ≠ "java/lang/invoke/MethodHandle" ∧ yX5_fits.cls ≠ "java/lang/invoke/VarHandle" ∧ (parseMethodDescriptor yX5_fits.desc).map (fun d => d.parameters.length) = some 1 := ⟨rfl, hd_X5_fits⟩
theorem hu_X5_fits : yX5_fits.name ≠ "<init>" ∧ (parseMethodDescriptor yX5_fits.desc).map (fun d => d.parameters.length) = some 1 := ⟨by decide +kernel, hd_X5_fits.2.2⟩
set_option maxHeartbeats 4000000 in
set_option maxRecDepth 100000 in
theorem wk_X5_fits {X : XC} (O : XOk X cX5_fits RX5 0 0) (hfl : (xL X).stackTraces = false) (hg : (xG X).2.2.2.2 = zAll (xG X).1.1 (xG X).1.2.2.2 (xG X).2.2.2.1) (hr : (xMeth X).sig.returnType = (some .boolean)) (hm : (xC X).maxLocals = 3) (o : Nat) (x1 : Nat) (s : XS) : Sim X xI (retC X eI xI) 0 [(0, .ref o), (1, .ref x1)] [] s (x5_fits o x1 s) := by
  have hzz := O.hst
  rw [hg] at hzz
  unfold x5_fits
  refine s_iconst O (x := 0) (by decide) dX5_fits_0 ?_
  refine s_istore_n O (L' := [(2, .int 0), (0, .ref o), (1, .ref x1)]) hm (by decide) rfl rfl dX5_fits_1 ?_
  refine Sim.sub (L' := [(0, .ref o), (1, .ref x1), (2, .int 0)]) [1, 2, 0] rfl ?_
  refine s_while (A := Int32) (B := (Unit) ⊕ (Unit)) (La := fun a2 => [(0, .ref o), (1, .ref x1), (2, .int a2)]) (We := fun bb0 s7 => match bb0 with | .inl b2 => xWX X 19 [] [] ((xI) s7) | .inr b2 => xWX X 27 [] [] ((xI) s7)) rfl rfl ?_ ?_
  · intro Cl hn he a2 s1
    unfold x5_fits_s2
    refine s_iload_n O 2 rfl rfl dX5_fits_2 ?_
    refine s_iconst O (x := 4) (by decide) dX5_fits_3 ?_
    refine s_icmp_ge O (tgt := 27) dX5_fits_4 (by decide) ?_ ?_
    · refine Sim.sub (L' := []) [] rfl ?_
      exact Sim.ret (he _ _)
    · refine s_aload_n O 0 rfl rfl dX5_fits_7 ?_
      refine x_get O (ci := 5) (T := TX5) (N := 2) in_X5 rfl 0 (by decide) q706 (fun _ h => h) dX5_fits_8 (fun v0 => ?_)
      refine s_vR (fun r2 => ?_)
      refine s_iload_n O 2 rfl rfl dX5_fits_11 ?_
      refine s_dr (fun p3 hp4 => ?_)
      subst hp4
      refine x_iald O dX5_fits_12 (fun u5 => ?_)
      refine s_aload_n O 1 rfl rfl dX5_fits_13 ?_
      refine s_iload_n O 2 rfl rfl dX5_fits_14 ?_
      refine x_iald O dX5_fits_15 (fun u6 => ?_)
      refine s_icmp_le O (tgt := 21) dX5_fits_16 (by decide) ?_ ?_
      · refine s_iinc O (y := (a2 + 1)) (L' := [(2, .int (a2 + 1)), (0, .ref o), (1, .ref x1)]) 2 rfl hm (by decide) rfl rfl dX5_fits_21 ?_
        refine s_goto O (tgt := 2) dX5_fits_24 (by decide) ?_
        refine Sim.sub (L' := [(0, .ref o), (1, .ref x1), (2, .int (a2 + 1))]) [1, 2, 0] rfl ?_
        exact Sim.ret (hn _ _)
      · refine Sim.sub (L' := []) [] rfl ?_
        exact Sim.ret (he _ _)
  · intro bb0 s7
    rcases bb0 with b2 | b2
    · show Sim X (xI) (retC X eI xI) 19 [] [] s7 _
      dsimp only
      refine s_iconst O (x := 0) (by decide) dX5_fits_19 ?_
      exact s_zreturnK O hr rfl rfl dX5_fits_20
    · show Sim X (xI) (retC X eI xI) 27 [] [] s7 _
      dsimp only
      refine s_iconst O (x := 1) (by decide) dX5_fits_27 ?_
      exact s_zreturnK O hr rfl rfl dX5_fits_28
theorem mt_X5_fits (l : Launch) (G : XG) (hfl : l.stackTraces = false) (hg : G.2.2.2.2 = zAll G.1.1 G.1.2.2.2 G.2.2.2.1) (o : Nat) (x1 : Nat) (s t : XS) (v : Int32) (h : x5_fits o x1 s = some (v, t)) : xMet l yX5_fits (ws_ yX5_fits cX5_fits 3 (some .boolean)) 0 0 G (xI s) [.ref o, .ref x1] (eI v) (xI t) :=
  xMet_of (E := xI) (enc := eI) (by decide +kernel) (Nat.le_of_ble_eq_true rfl) (fun X hl hG O hr hm => by subst hl; subst hG; exact wk_X5_fits O hfl hg hr hm o x1 s) h
theorem hd_X1_covers : yX1_covers.cls ≠ "java/lang/invoke/MethodHandle" ∧ yX1_covers.cls ≠ "java/lang/invoke/VarHandle" ∧ (parseMethodDescriptor yX1_covers.desc).map (fun d => d.parameters.length) = some 1 := by decide +kernel
theorem hv_X1_covers : yX1_covers.cls = RX1 ∧ yX1_covers.cls ≠ "java/lang/invoke/MethodHandle" ∧ yX1_covers.cls ≠ "java/lang/invoke/VarHandle" ∧ (parseMethodDescriptor yX1_covers.desc).map (fun d => d.parameters.length) = some 1 := ⟨rfl, hd_X1_covers⟩
theorem hu_X1_covers : yX1_covers.name ≠ "<init>" ∧ (parseMethodDescriptor yX1_covers.desc).map (fun d => d.parameters.length) = some 1 := ⟨by decide +kernel, hd_X1_covers.2.2⟩
set_option maxHeartbeats 4000000 in
set_option maxRecDepth 100000 in
theorem wk_X1_covers {X : XC} (O : XOk X cX1_covers RX1 3 64) (hfl : (xL X).stackTraces = false) (hg : (xG X).2.2.2.2 = zAll (xG X).1.1 (xG X).1.2.2.2 (xG X).2.2.2.1) (hr : (xMeth X).sig.returnType = (some .boolean)) (hm : (xC X).maxLocals = 3) (o : Nat) (x1 : Nat) (s : XS) : Sim X xI (retC X eI xI) 0 [(0, .ref o), (1, .ref x1)] [] s (x1_covers o x1 s) := by
  have hzz := O.hst
  rw [hg] at hzz
  unfold x1_covers
  refine s_iconst O (x := 0) (by decide) dX1_covers_0 ?_
  refine s_istore_n O (L' := [(2, .int 0), (0, .ref o), (1, .ref x1)]) hm (by decide) rfl rfl dX1_covers_1 ?_
  refine Sim.sub (L' := [(0, .ref o), (1, .ref x1), (2, .int 0)]) [1, 2, 0] rfl ?_
  refine s_while (A := Int32) (B := (Unit) ⊕ (Unit)) (La := fun a2 => [(0, .ref o), (1, .ref x1), (2, .int a2)]) (We := fun bb0 s16 => match bb0 with | .inl b2 => xWX X 35 [] [] ((xI) s16) | .inr b2 => xWX X 43 [] [] ((xI) s16)) rfl rfl ?_ ?_
  · intro Cl hn he a2 s1
    unfold x1_covers_s2
    refine s_iload_n O 2 rfl rfl dX1_covers_2 ?_
    refine s_aload_n O 0 rfl rfl dX1_covers_3 ?_
    refine x_get O (ci := 1) (T := TX1) (N := 6) in_X1 rfl 1 (by decide) q207 (fun _ h => h) dX1_covers_4 (fun v0 => ?_)
    refine s_vR (fun r2 => ?_)
    refine s_dr (fun p3 hp4 => ?_)
    subst hp4
    refine x_callF O (enc2 := eI) (ci := 7) (av := []) (rest := [.int a2]) 0 (fun v0 t0 h0 => mt_J2_size (xL X) (xG X) hfl hg p3 _ t0 v0 h0) (lw_F q839 q695 q697 q135 q699) (zw_0 hzz) hf_J2_size ⟨Nat.le_of_ble_eq_true rfl, Nat.le_of_ble_eq_true rfl⟩ rfl rfl (Nat.le_of_ble_eq_true rfl) dX1_covers_7 (fun v5 s6 => ?_)
    refine s_icmp_ge O (tgt := 43) dX1_covers_12 (by decide) ?_ ?_
    · refine Sim.sub (L' := []) [] rfl ?_
      exact Sim.ret (he _ _)
    · refine s_aload_n O 0 rfl rfl dX1_covers_15 ?_
      refine x_get O (ci := 1) (T := TX1) (N := 6) in_X1 rfl 1 (by decide) q207 (fun _ h => h) dX1_covers_16 (fun v0 => ?_)
      refine s_vR (fun r7 => ?_)
      refine s_iload_n O 2 rfl rfl dX1_covers_19 ?_
      refine s_dr (fun p8 hp9 => ?_)
      subst hp9
      refine x_callF O (enc2 := eR) (ci := 7) (av := [.int a2]) (rest := []) 1 (fun v0 t0 h0 => mt_J2_get (xL X) (xG X) hfl hg p8 a2 _ t0 v0 h0) (lw_F q841 q844 q846 q135 q848) (zw_3 hzz) hf_J2_get ⟨Nat.le_of_ble_eq_true rfl, Nat.le_of_ble_eq_true rfl⟩ rfl rfl (Nat.le_of_ble_eq_true rfl) dX1_covers_20 (fun r10 s11 => ?_)
      refine s_dr (fun p12 hp13 => ?_)
      subst hp13
      refine x_cast O (ci := 5) rfl q829 dX1_covers_25 ?_
      refine s_aload_n O 1 rfl rfl dX1_covers_28 ?_
      refine x_callV O (enc2 := eI) (ci := 5) (av := [.ref x1]) (rest := []) 1 (fun v0 t0 h0 => mt_X5_fits (xL X) (xG X) hfl hg p12 x1 _ t0 v0 h0) (lw_V q857 q858 q859 q151 q860) hv_X5_fits ⟨Nat.le_of_ble_eq_true rfl, Nat.le_of_ble_eq_true rfl⟩ rfl rfl (Nat.le_of_ble_eq_true rfl) dX1_covers_29 (fun v14 s15 => ?_)
      refine s_if_eq O (tgt := 37) dX1_covers_32 (by decide) ?_ ?_
      · refine s_iinc O (y := (a2 + 1)) (L' := [(2, .int (a2 + 1)), (0, .ref o), (1, .ref x1)]) 2 rfl hm (by decide) rfl rfl dX1_covers_37 ?_
        refine s_goto O (tgt := 2) dX1_covers_40 (by decide) ?_
        refine Sim.sub (L' := [(0, .ref o), (1, .ref x1), (2, .int (a2 + 1))]) [1, 2, 0] rfl ?_
        exact Sim.ret (hn _ _)
      · refine Sim.sub (L' := []) [] rfl ?_
        exact Sim.ret (he _ _)
  · intro bb0 s16
    rcases bb0 with b2 | b2
    · show Sim X (xI) (retC X eI xI) 35 [] [] s16 _
      dsimp only
      refine s_iconst O (x := 1) (by decide) dX1_covers_35 ?_
      exact s_zreturnK O hr rfl rfl dX1_covers_36
    · show Sim X (xI) (retC X eI xI) 43 [] [] s16 _
      dsimp only
      refine s_iconst O (x := 0) (by decide) dX1_covers_43 ?_
      exact s_zreturnK O hr rfl rfl dX1_covers_44
theorem mt_X1_covers (l : Launch) (G : XG) (hfl : l.stackTraces = false) (hg : G.2.2.2.2 = zAll G.1.1 G.1.2.2.2 G.2.2.2.1) (o : Nat) (x1 : Nat) (s t : XS) (v : Int32) (h : x1_covers o x1 s = some (v, t)) : xMet l yX1_covers (ws_ yX1_covers cX1_covers 3 (some .boolean)) 3 64 G (xI s) [.ref o, .ref x1] (eI v) (xI t) :=
  xMet_of (E := xI) (enc := eI) (by decide +kernel) (Nat.le_of_ble_eq_true rfl) (fun X hl hG O hr hm => by subst hl; subst hG; exact wk_X1_covers O hfl hg hr hm o x1 s) h
theorem hd_J2_fastRemove : yJ2_fastRemove.cls ≠ "java/lang/invoke/MethodHandle" ∧ yJ2_fastRemove.cls ≠ "java/lang/invoke/VarHandle" ∧ (parseMethodDescriptor yJ2_fastRemove.desc).map (fun d => d.parameters.length) = some 2 := by decide +kernel
theorem hv_J2_fastRemove : yJ2_fastRemove.cls = RJ2 ∧ yJ2_fastRemove.cls ≠ "java/lang/invoke/MethodHandle" ∧ yJ2_fastRemove.cls ≠ "java/lang/invoke/VarHandle" ∧ (parseMethodDescriptor yJ2_fastRemove.desc).map (fun d => d.parameters.length) = some 2 := ⟨rfl, hd_J2_fastRemove⟩
theorem hu_J2_fastRemove : yJ2_fastRemove.name ≠ "<init>" ∧ (parseMethodDescriptor yJ2_fastRemove.desc).map (fun d => d.parameters.length) = some 2 := ⟨by decide +kernel, hd_J2_fastRemove.2.2⟩
set_option maxHeartbeats 4000000 in
set_option maxRecDepth 100000 in
theorem wk_J2_fastRemove {X : XC} (O : XOk X cJ2_fastRemove RJ2 1 60) (hfl : (xL X).stackTraces = false) (hg : (xG X).2.2.2.2 = zAll (xG X).1.1 (xG X).1.2.2.2 (xG X).2.2.2.1) (hr : (xMeth X).sig.returnType = none) (hm : (xC X).maxLocals = 4) (o : Nat) (x1 : Nat) (x2 : Int32) (s : XS) : Sim X xI (retC X eU xI) 0 [(0, .ref o), (1, .ref x1), (2, .int x2)] [] s (j2_fastRemove o x1 x2 s) := by
  have hzz := O.hst
  rw [hg] at hzz
  unfold j2_fastRemove
  have hj34 : ∀ (x3_34 : Int32) (s5 : XS), Sim X (xI) (retC X eU xI) 34 [(0, .ref o), (1, .ref x1), (3, .int x3_34)] [] s5 (j2_fastRemove_j34 o x1 x3_34 s5) := by
    intro x3_34 s5
    unfold j2_fastRemove_j34
    refine s_aload_n O 1 rfl rfl dJ2_fastRemove_34 ?_
    refine s_aload_n O 0 rfl rfl dJ2_fastRemove_35 ?_
    refine s_iload_n O 2 rfl rfl dJ2_fastRemove_36 ?_
    refine s_dup_x1 O rfl rfl dJ2_fastRemove_37 ?_
    refine x_put O (ci := 7) (T := TJ2) (N := 3) (ty := .int) in_J2 tyJ2 tyJ2_ok nmJ2 rfl 2 (by decide) q191 (fun _ h => h) rfl (by decide +kernel) rfl rfl dJ2_fastRemove_38 (fun s6 => ?_)
    refine s_null O dJ2_fastRemove_41 ?_
    refine x_aast O (t := 4) (r := none) rfl (zcast4 hzz) dJ2_fastRemove_42 (fun s7 => ?_)
    exact s_return O hr rfl dJ2_fastRemove_43
  refine s_aload_n O 0 rfl rfl dJ2_fastRemove_0 ?_
  refine s_dup O rfl dJ2_fastRemove_1 ?_
  refine x_get O (ci := 7) (T := TJ2) (N := 3) in_J2 rfl 0 (by decide) q195 (u_same (O.hts _ q194)) dJ2_fastRemove_2 (fun v0 => ?_)
  refine s_vI (fun u1 => ?_)
  refine s_iconst O (x := 1) (by decide) dJ2_fastRemove_5 ?_
  refine s_iadd O dJ2_fastRemove_6 ?_
  refine x_put O (ci := 7) (T := TJ2) (N := 3) (ty := .int) in_J2 tyJ2 tyJ2_ok nmJ2 rfl 0 (by decide) q195 (u_same (O.hts _ q194)) rfl (by decide +kernel) rfl rfl dJ2_fastRemove_7 (fun s2 => ?_)
  refine s_aload_n O 0 rfl rfl dJ2_fastRemove_10 ?_
  refine x_get O (ci := 7) (T := TJ2) (N := 3) in_J2 rfl 2 (by decide) q191 (fun _ h => h) dJ2_fastRemove_11 (fun v0 => ?_)
  refine s_vI (fun u3 => ?_)
  refine s_iconst O (x := 1) (by decide) dJ2_fastRemove_14 ?_
  refine s_isub O dJ2_fastRemove_15 ?_
  refine s_dup O rfl dJ2_fastRemove_16 ?_
  refine s_nmi fun u4 => ?_
  refine s_istore_n O (L' := [(3, .int u4), (0, .ref o), (1, .ref x1), (2, .int x2)]) hm (by decide) rfl rfl dJ2_fastRemove_17 ?_
  refine s_iload_n O 3 rfl rfl dJ2_fastRemove_18 ?_
  refine s_icmp_le O (tgt := 34) dJ2_fastRemove_19 (by decide) ?_ ?_
  · refine Sim.sub (L' := [(0, .ref o), (1, .ref x1), (3, .int u4)]) [1, 2, 0] rfl ?_
    exact hj34 u4 _
  · refine s_aload_n O 2 rfl rfl dJ2_fastRemove_22 ?_
    refine s_iload_n O 3 rfl rfl dJ2_fastRemove_23 ?_
    refine s_iconst O (x := 1) (by decide) dJ2_fastRemove_24 ?_
    refine s_iadd O dJ2_fastRemove_25 ?_
    refine s_aload_n O 2 rfl rfl dJ2_fastRemove_26 ?_
    refine s_iload_n O 3 rfl rfl dJ2_fastRemove_27 ?_
    refine s_iload_n O 0 rfl rfl dJ2_fastRemove_28 ?_
    refine s_iload_n O 3 rfl rfl dJ2_fastRemove_29 ?_
    refine s_isub O dJ2_fastRemove_30 ?_
    refine x_acR O (zcast4 hzz) q874 q459 q458 q145 ⟨Nat.le_of_ble_eq_true rfl, by decide⟩ (Nat.le_of_ble_eq_true rfl) dJ2_fastRemove_31 (fun s8 => ?_)
    refine Sim.sub (L' := [(0, .ref o), (1, .ref x1), (3, .int u4)]) [1, 2, 0] rfl ?_
    exact hj34 u4 _
theorem mt_J2_fastRemove (l : Launch) (G : XG) (hfl : l.stackTraces = false) (hg : G.2.2.2.2 = zAll G.1.1 G.1.2.2.2 G.2.2.2.1) (o : Nat) (x1 : Nat) (x2 : Int32) (s t : XS) (v : Unit) (h : j2_fastRemove o x1 x2 s = some (v, t)) : xMet l yJ2_fastRemove (ws_ yJ2_fastRemove cJ2_fastRemove 4 none) 1 60 G (xI s) [.ref o, .ref x1, .int x2] (eU v) (xI t) :=
  xMet_of (E := xI) (enc := eU) (by decide +kernel) (Nat.le_of_ble_eq_true rfl) (fun X hl hG O hr hm => by subst hl; subst hG; exact wk_J2_fastRemove O hfl hg hr hm o x1 x2 s) h
theorem hd_J2_remove : yJ2_remove.cls ≠ "java/lang/invoke/MethodHandle" ∧ yJ2_remove.cls ≠ "java/lang/invoke/VarHandle" ∧ (parseMethodDescriptor yJ2_remove.desc).map (fun d => d.parameters.length) = some 1 := by decide +kernel
theorem hv_J2_remove : yJ2_remove.cls = RJ2 ∧ yJ2_remove.cls ≠ "java/lang/invoke/MethodHandle" ∧ yJ2_remove.cls ≠ "java/lang/invoke/VarHandle" ∧ (parseMethodDescriptor yJ2_remove.desc).map (fun d => d.parameters.length) = some 1 := ⟨rfl, hd_J2_remove⟩
theorem hu_J2_remove : yJ2_remove.name ≠ "<init>" ∧ (parseMethodDescriptor yJ2_remove.desc).map (fun d => d.parameters.length) = some 1 := ⟨by decide +kernel, hd_J2_remove.2.2⟩
theorem hf_J2_remove : (⟨"java/util/List", "remove", "(I)Ljava/lang/Object;"⟩ : MethodName).cls ≠ "java/lang/invoke/MethodHandle" ∧ (⟨"java/util/List", "remove", "(I)Ljava/lang/Object;"⟩ : MethodName).cls ≠ "java/lang/invoke/VarHandle" ∧ (parseMethodDescriptor (⟨"java/util/List", "remove", "(I)Ljava/lang/Object;"⟩ : MethodName).desc).map (fun d => d.parameters.length) = some 1 := by decide +kernel
set_option maxHeartbeats 4000000 in
set_option maxRecDepth 100000 in
theorem wk_J2_remove {X : XC} (O : XOk X cJ2_remove RJ2 2 83) (hfl : (xL X).stackTraces = false) (hg : (xG X).2.2.2.2 = zAll (xG X).1.1 (xG X).1.2.2.2 (xG X).2.2.2.1) (hr : (xMeth X).sig.returnType = (some (.object "java/lang/Object"))) (hm : (xC X).maxLocals = 4) (o : Nat) (x1 : Int32) (s : XS) : Sim X xI (retC X eR xI) 0 [(0, .ref o), (1, .int x1)] [] s (j2_remove o x1 s) := by
  have hzz := O.hst
  rw [hg] at hzz
  unfold j2_remove
  refine s_iload_n O 1 rfl rfl dJ2_remove_0 ?_
  refine s_aload_n O 0 rfl rfl dJ2_remove_1 ?_
  refine x_get O (ci := 7) (T := TJ2) (N := 3) in_J2 rfl 2 (by decide) q191 (fun _ h => h) dJ2_remove_2 (fun v0 => ?_)
  refine s_vI (fun u1 => ?_)
  refine x_callS O (enc2 := eI) (av := [.int x1, .int u1]) (rest := []) 2 (fun v0 t0 h0 => mt_J15_checkIndex (xL X) (xG X) hfl hg x1 u1 _ t0 v0 h0) (lw_S q849 q850 q153 q851) hd_J15_checkIndex ⟨Nat.le_of_ble_eq_true rfl, Nat.le_of_ble_eq_true rfl⟩ rfl (Nat.le_of_ble_eq_true rfl) dJ2_remove_5 (fun v2 s3 => ?_)
  refine s_pop O rfl dJ2_remove_8 ?_
  refine s_aload_n O 0 rfl rfl dJ2_remove_9 ?_
  refine x_get O (ci := 7) (T := TJ2) (N := 3) in_J2 rfl 1 (by decide) q188 (fun _ h => h) dJ2_remove_10 (fun v0 => ?_)
  refine s_vR (fun r4 => ?_)
  refine s_astore_nQ O (r := r4) (L' := [(0, .ref o), (1, .int x1)]) rfl hm (by decide) (fun _ => rfl) dJ2_remove_13 ?_
  refine s_aload_nQ O 0 rfl rfl dJ2_remove_14 ?_
  refine s_iload_n O 2 rfl rfl dJ2_remove_15 ?_
  refine s_dr (fun p5 hp6 => ?_)
  subst hp6
  refine x_aald O (t := 4) rfl rfl dJ2_remove_16 (fun r7 => ?_)
  refine s_astore_nQ O (r := r7) (L' := [(2, .ref p5), (0, .ref o), (1, .int x1)]) rfl hm (by decide) (fun _ => rfl) dJ2_remove_17 ?_
  refine s_aload_n O 2 rfl rfl dJ2_remove_18 ?_
  refine s_aload_n O 1 rfl rfl dJ2_remove_19 ?_
  refine s_iload_n O 3 rfl rfl dJ2_remove_20 ?_
  refine x_callV O (enc2 := eU) (ci := 7) (av := [.ref p5, .int x1]) (rest := []) 2 (fun v0 t0 h0 => mt_J2_fastRemove (xL X) (xG X) hfl hg o p5 x1 _ t0 v0 h0) (lw_V q870 q872 qs20 q135 q873) hv_J2_fastRemove ⟨Nat.le_of_ble_eq_true rfl, Nat.le_of_ble_eq_true rfl⟩ rfl rfl (Nat.le_of_ble_eq_true rfl) dJ2_remove_21 (fun v8 s9 => ?_)
  refine s_aload_nQ O 0 rfl rfl dJ2_remove_24 ?_
  exact s_areturnQ O (r := r7) hr (Or.inl ⟨_, rfl⟩) rfl dJ2_remove_25
theorem mt_J2_remove (l : Launch) (G : XG) (hfl : l.stackTraces = false) (hg : G.2.2.2.2 = zAll G.1.1 G.1.2.2.2 G.2.2.2.1) (o : Nat) (x1 : Int32) (s t : XS) (v : Option Nat) (h : j2_remove o x1 s = some (v, t)) : xMet l yJ2_remove (ws_ yJ2_remove cJ2_remove 4 (some (.object "java/lang/Object"))) 2 83 G (xI s) [.ref o, .int x1] (eR v) (xI t) :=
  xMet_of (E := xI) (enc := eR) (by decide +kernel) (Nat.le_of_ble_eq_true rfl) (fun X hl hG O hr hm => by subst hl; subst hG; exact wk_J2_remove O hfl hg hr hm o x1 s) h
theorem hd_X5_isLess : yX5_isLess.cls ≠ "java/lang/invoke/MethodHandle" ∧ yX5_isLess.cls ≠ "java/lang/invoke/VarHandle" ∧ (parseMethodDescriptor yX5_isLess.desc).map (fun d => d.parameters.length) = some 1 := by decide +kernel
theorem hv_X5_isLess : yX5_isLess.cls = RX5 ∧ yX5_isLess.cls ≠ "java/lang/invoke/MethodHandle" ∧ yX5_isLess.cls ≠ "java/lang/invoke/VarHandle" ∧ (parseMethodDescriptor yX5_isLess.desc).map (fun d => d.parameters.length) = some 1 := ⟨rfl, hd_X5_isLess⟩
theorem hu_X5_isLess : yX5_isLess.name ≠ "<init>" ∧ (parseMethodDescriptor yX5_isLess.desc).map (fun d => d.parameters.length) = some 1 := ⟨by decide +kernel, hd_X5_isLess.2.2⟩
set_option maxHeartbeats 4000000 in
set_option maxRecDepth 100000 in
theorem wk_X5_isLess {X : XC} (O : XOk X cX5_isLess RX5 0 0) (hfl : (xL X).stackTraces = false) (hg : (xG X).2.2.2.2 = zAll (xG X).1.1 (xG X).1.2.2.2 (xG X).2.2.2.1) (hr : (xMeth X).sig.returnType = (some .boolean)) (hm : (xC X).maxLocals = 3) (o : Nat) (x1 : Nat) (s : XS) : Sim X xI (retC X eI xI) 0 [(0, .ref o), (1, .ref x1)] [] s (x5_isLess o x1 s) := by
  have hzz := O.hst
  rw [hg] at hzz
  unfold x5_isLess
  have hj56 : ∀ (x2_56 : Int32) (s13 : XS), Sim X (xI) (retC X eI xI) 56 [(0, .ref o), (1, .ref x1), (2, .int x2_56)] [] s13 (x5_isLess_j56 o x1 x2_56 s13) := by
    intro x2_56 s13
    unfold x5_isLess_j56
    refine s_iload_n O 2 rfl rfl dX5_isLess_56 ?_
    refine s_iconst O (x := 4) (by decide) dX5_isLess_57 ?_
    refine s_icmp_ge O (tgt := 80) dX5_isLess_58 (by decide) ?_ ?_
    · refine s_iconst O (x := 0) (by decide) dX5_isLess_80 ?_
      exact s_zreturnK O hr rfl rfl dX5_isLess_81
    · refine s_aload_n O 0 rfl rfl dX5_isLess_61 ?_
      refine x_get O (ci := 5) (T := TX5) (N := 2) in_X5 rfl 0 (by decide) q706 (fun _ h => h) dX5_isLess_62 (fun v0 => ?_)
      refine s_vR (fun r14 => ?_)
      refine s_iload_n O 2 rfl rfl dX5_isLess_65 ?_
      refine s_dr (fun p15 hp16 => ?_)
      subst hp16
      refine x_iald O dX5_isLess_66 (fun u17 => ?_)
      refine s_aload_n O 1 rfl rfl dX5_isLess_67 ?_
      refine x_get O (ci := 5) (T := TX5) (N := 2) in_X5 rfl 0 (by decide) q706 (fun _ h => h) dX5_isLess_68 (fun v0 => ?_)
      refine s_vR (fun r18 => ?_)
      refine s_iload_n O 2 rfl rfl dX5_isLess_71 ?_
      refine s_dr (fun p19 hp20 => ?_)
      subst hp20
      refine x_iald O dX5_isLess_72 (fun u21 => ?_)
      refine s_icmp_le O (tgt := 80) dX5_isLess_73 (by decide) ?_ ?_
      · refine s_iconst O (x := 0) (by decide) dX5_isLess_80 ?_
        exact s_zreturnK O hr rfl rfl dX5_isLess_81
      · refine s_iconst O (x := 1) (by decide) dX5_isLess_76 ?_
        refine s_goto O (tgt := 81) dX5_isLess_77 (by decide) ?_
        exact s_zreturnK O hr rfl rfl dX5_isLess_81
  refine s_aload_n O 0 rfl rfl dX5_isLess_0 ?_
  refine x_get O (ci := 5) (T := TX5) (N := 2) in_X5 rfl 1 (by decide) q709 (fun _ h => h) dX5_isLess_1 (fun v0 => ?_)
  refine s_vI (fun u1 => ?_)
  refine s_aload_n O 1 rfl rfl dX5_isLess_4 ?_
  refine x_get O (ci := 5) (T := TX5) (N := 2) in_X5 rfl 1 (by decide) q709 (fun _ h => h) dX5_isLess_5 (fun v0 => ?_)
  refine s_vI (fun u2 => ?_)
  refine s_icmp_eq O (tgt := 28) dX5_isLess_8 (by decide) ?_ ?_
  · refine s_iconst O (x := 0) (by decide) dX5_isLess_28 ?_
    refine s_istore_n O (L' := [(2, .int 0), (0, .ref o), (1, .ref x1)]) hm (by decide) rfl rfl dX5_isLess_29 ?_
    refine Sim.sub (L' := [(0, .ref o), (1, .ref x1), (2, .int 0)]) [1, 2, 0] rfl ?_
    refine s_while (A := Int32) (B := Int32) (La := fun a30 => [(0, .ref o), (1, .ref x1), (2, .int a30)]) (We := fun b30 s12 => xWX X 56 [(0, .ref o), (1, .ref x1), (2, .int b30)] [] ((xI) s12)) rfl rfl ?_ ?_
    · intro Cl hn he a30 s3
      unfold x5_isLess_s30
      refine s_iload_n O 2 rfl rfl dX5_isLess_30 ?_
      refine s_iconst O (x := 4) (by decide) dX5_isLess_31 ?_
      refine s_icmp_ge O (tgt := 56) dX5_isLess_32 (by decide) ?_ ?_
      · exact Sim.ret (he _ _)
      · refine s_aload_n O 0 rfl rfl dX5_isLess_35 ?_
        refine x_get O (ci := 5) (T := TX5) (N := 2) in_X5 rfl 0 (by decide) q706 (fun _ h => h) dX5_isLess_36 (fun v0 => ?_)
        refine s_vR (fun r4 => ?_)
        refine s_iload_n O 2 rfl rfl dX5_isLess_39 ?_
        refine s_dr (fun p5 hp6 => ?_)
        subst hp6
        refine x_iald O dX5_isLess_40 (fun u7 => ?_)
        refine s_aload_n O 1 rfl rfl dX5_isLess_41 ?_
        refine x_get O (ci := 5) (T := TX5) (N := 2) in_X5 rfl 0 (by decide) q706 (fun _ h => h) dX5_isLess_42 (fun v0 => ?_)
        refine s_vR (fun r8 => ?_)
        refine s_iload_n O 2 rfl rfl dX5_isLess_45 ?_
        refine s_dr (fun p9 hp10 => ?_)
        subst hp10
        refine x_iald O dX5_isLess_46 (fun u11 => ?_)
        refine s_icmp_ne O (tgt := 56) dX5_isLess_47 (by decide) ?_ ?_
        · exact Sim.ret (he _ _)
        · refine s_iinc O (y := (a30 + 1)) (L' := [(2, .int (a30 + 1)), (0, .ref o), (1, .ref x1)]) 2 rfl hm (by decide) rfl rfl dX5_isLess_50 ?_
          refine s_goto O (tgt := 30) dX5_isLess_53 (by decide) ?_
          refine Sim.sub (L' := [(0, .ref o), (1, .ref x1), (2, .int (a30 + 1))]) [1, 2, 0] rfl ?_
          exact Sim.ret (hn _ _)
    · intro b30 s12
      show Sim X (xI) (retC X eI xI) 56 [(0, .ref o), (1, .ref x1), (2, .int b30)] [] s12 _
      exact hj56 b30 _
  · refine s_aload_n O 0 rfl rfl dX5_isLess_11 ?_
    refine x_get O (ci := 5) (T := TX5) (N := 2) in_X5 rfl 1 (by decide) q709 (fun _ h => h) dX5_isLess_12 (fun v0 => ?_)
    refine s_vI (fun u22 => ?_)
    refine s_aload_n O 1 rfl rfl dX5_isLess_15 ?_
    refine x_get O (ci := 5) (T := TX5) (N := 2) in_X5 rfl 1 (by decide) q709 (fun _ h => h) dX5_isLess_16 (fun v0 => ?_)
    refine s_vI (fun u23 => ?_)
    refine s_icmp_ge O (tgt := 26) dX5_isLess_19 (by decide) ?_ ?_
    · refine s_iconst O (x := 0) (by decide) dX5_isLess_26 ?_
      exact s_zreturnK O hr rfl rfl dX5_isLess_27
    · refine s_iconst O (x := 1) (by decide) dX5_isLess_22 ?_
      refine s_goto O (tgt := 27) dX5_isLess_23 (by decide) ?_
      exact s_zreturnK O hr rfl rfl dX5_isLess_27
theorem mt_X5_isLess (l : Launch) (G : XG) (hfl : l.stackTraces = false) (hg : G.2.2.2.2 = zAll G.1.1 G.1.2.2.2 G.2.2.2.1) (o : Nat) (x1 : Nat) (s t : XS) (v : Int32) (h : x5_isLess o x1 s = some (v, t)) : xMet l yX5_isLess (ws_ yX5_isLess cX5_isLess 3 (some .boolean)) 0 0 G (xI s) [.ref o, .ref x1] (eI v) (xI t) :=
  xMet_of (E := xI) (enc := eI) (by decide +kernel) (Nat.le_of_ble_eq_true rfl) (fun X hl hG O hr hm => by subst hl; subst hG; exact wk_X5_isLess O hfl hg hr hm o x1 s) h
theorem hd_J2_rangeCheckForAdd : yJ2_rangeCheckForAdd.cls ≠ "java/lang/invoke/MethodHandle" ∧ yJ2_rangeCheckForAdd.cls ≠ "java/lang/invoke/VarHandle" ∧ (parseMethodDescriptor yJ2_rangeCheckForAdd.desc).map (fun d => d.parameters.length) = some 1 := by decide +kernel
theorem hv_J2_rangeCheckForAdd : yJ2_rangeCheckForAdd.cls = RJ2 ∧ yJ2_rangeCheckForAdd.cls ≠ "java/lang/invoke/MethodHandle" ∧ yJ2_rangeCheckForAdd.cls ≠ "java/lang/invoke/VarHandle" ∧ (parseMethodDescriptor yJ2_rangeCheckForAdd.desc).map (fun d => d.parameters.length) = some 1 := ⟨rfl, hd_J2_rangeCheckForAdd⟩
theorem hu_J2_rangeCheckForAdd : yJ2_rangeCheckForAdd.name ≠ "<init>" ∧ (parseMethodDescriptor yJ2_rangeCheckForAdd.desc).map (fun d => d.parameters.length) = some 1 := ⟨by decide +kernel, hd_J2_rangeCheckForAdd.2.2⟩
set_option maxHeartbeats 4000000 in
set_option maxRecDepth 100000 in
theorem wk_J2_rangeCheckForAdd {X : XC} (O : XOk X cJ2_rangeCheckForAdd RJ2 0 0) (hfl : (xL X).stackTraces = false) (hg : (xG X).2.2.2.2 = zAll (xG X).1.1 (xG X).1.2.2.2 (xG X).2.2.2.1) (hr : (xMeth X).sig.returnType = none) (hm : (xC X).maxLocals = 2) (o : Nat) (x1 : Int32) (s : XS) : Sim X xI (retC X eU xI) 0 [(0, .ref o), (1, .int x1)] [] s (j2_rangeCheckForAdd o x1 s) := by
  have hzz := O.hst
  rw [hg] at hzz
  unfold j2_rangeCheckForAdd
  refine s_iload_n O 1 rfl rfl dJ2_rangeCheckForAdd_0 ?_
  refine s_aload_n O 0 rfl rfl dJ2_rangeCheckForAdd_1 ?_
  refine x_get O (ci := 7) (T := TJ2) (N := 3) in_J2 rfl 2 (by decide) q191 (fun _ h => h) dJ2_rangeCheckForAdd_2 (fun v0 => ?_)
  refine s_vI (fun u1 => ?_)
  refine s_icmp_gt O (tgt := 12) dJ2_rangeCheckForAdd_5 (by decide) ?_ ?_
  · exact Sim.none
  · refine s_iload_n O 1 rfl rfl dJ2_rangeCheckForAdd_8 ?_
    refine s_if_ge O (tgt := 25) dJ2_rangeCheckForAdd_9 (by decide) ?_ ?_
    · exact s_return O hr rfl dJ2_rangeCheckForAdd_25
    · exact Sim.none
theorem mt_J2_rangeCheckForAdd (l : Launch) (G : XG) (hfl : l.stackTraces = false) (hg : G.2.2.2.2 = zAll G.1.1 G.1.2.2.2 G.2.2.2.1) (o : Nat) (x1 : Int32) (s t : XS) (v : Unit) (h : j2_rangeCheckForAdd o x1 s = some (v, t)) : xMet l yJ2_rangeCheckForAdd (ws_ yJ2_rangeCheckForAdd cJ2_rangeCheckForAdd 2 none) 0 0 G (xI s) [.ref o, .int x1] (eU v) (xI t) :=
  xMet_of (E := xI) (enc := eU) (by decide +kernel) (Nat.le_of_ble_eq_true rfl) (fun X hl hG O hr hm => by subst hl; subst hG; exact wk_J2_rangeCheckForAdd O hfl hg hr hm o x1 s) h
theorem hd_J2_add_3 : yJ2_add_3.cls ≠ "java/lang/invoke/MethodHandle" ∧ yJ2_add_3.cls ≠ "java/lang/invoke/VarHandle" ∧ (parseMethodDescriptor yJ2_add_3.desc).map (fun d => d.parameters.length) = some 2 := by decide +kernel
theorem hv_J2_add_3 : yJ2_add_3.cls = RJ2 ∧ yJ2_add_3.cls ≠ "java/lang/invoke/MethodHandle" ∧ yJ2_add_3.cls ≠ "java/lang/invoke/VarHandle" ∧ (parseMethodDescriptor yJ2_add_3.desc).map (fun d => d.parameters.length) = some 2 := ⟨rfl, hd_J2_add_3⟩
theorem hu_J2_add_3 : yJ2_add_3.name ≠ "<init>" ∧ (parseMethodDescriptor yJ2_add_3.desc).map (fun d => d.parameters.length) = some 2 := ⟨by decide +kernel, hd_J2_add_3.2.2⟩
theorem hf_J2_add_3 : (⟨"java/util/List", "add", "(ILjava/lang/Object;)V"⟩ : MethodName).cls ≠ "java/lang/invoke/MethodHandle" ∧ (⟨"java/util/List", "add", "(ILjava/lang/Object;)V"⟩ : MethodName).cls ≠ "java/lang/invoke/VarHandle" ∧ (parseMethodDescriptor (⟨"java/util/List", "add", "(ILjava/lang/Object;)V"⟩ : MethodName).desc).map (fun d => d.parameters.length) = some 2 := by decide +kernel
set_option maxHeartbeats 4000000 in
set_option maxRecDepth 100000 in
theorem wk_J2_add_3 {X : XC} (O : XOk X cJ2_add_3 RJ2 5 147) (hfl : (xL X).stackTraces = false) (hg : (xG X).2.2.2.2 = zAll (xG X).1.1 (xG X).1.2.2.2 (xG X).2.2.2.1) (hr : (xMeth X).sig.returnType = none) (hm : (xC X).maxLocals = 5) (o : Nat) (x1 : Int32) (x2 : Nat) (s : XS) : Sim X xI (retC X eU xI) 0 [(0, .ref o), (1, .int x1), (2, .ref x2)] [] s (j2_add_3 o x1 x2 s) := by
  have hzz := O.hst
  rw [hg] at hzz
  unfold j2_add_3
  have hj38 : ∀ (x3_38 : Int32) (x4_38 : Option Nat) (s10 : XS), Sim X (xI) (retC X eU xI) 38 [(0, .ref o), (1, .int x1), (2, .ref x2), (3, .int x3_38), (4, va_rf x4_38)] [] s10 (j2_add_3_j38 o x1 x2 x3_38 x4_38 s10) := by
    intro x3_38 x4_38 s10
    unfold j2_add_3_j38
    refine s_aloadQ O 4 rfl dJ2_add_3_38 ?_
    refine s_iload_n O 1 rfl rfl dJ2_add_3_40 ?_
    refine s_aloadQ O 4 rfl dJ2_add_3_41 ?_
    refine s_iload_n O 1 rfl rfl dJ2_add_3_43 ?_
    refine s_iconst O (x := 1) (by decide) dJ2_add_3_44 ?_
    refine s_iadd O dJ2_add_3_45 ?_
    refine s_iload_n O 3 rfl rfl dJ2_add_3_46 ?_
    refine s_iload_n O 1 rfl rfl dJ2_add_3_47 ?_
    refine s_isub O dJ2_add_3_48 ?_
    refine s_dr (fun p11 hp12 => ?_)
    subst hp12
    refine x_acR O (zcast4 hzz) q874 q459 q458 q145 ⟨Nat.le_of_ble_eq_true rfl, by decide⟩ (Nat.le_of_ble_eq_true rfl) dJ2_add_3_49 (fun s13 => ?_)
    refine s_aload O 4 rfl dJ2_add_3_52 ?_
    refine s_iload_n O 1 rfl rfl dJ2_add_3_54 ?_
    refine s_aload_n O 2 rfl rfl dJ2_add_3_55 ?_
    refine x_aast O (t := 4) (r := (some x2)) rfl (zcast4 hzz) dJ2_add_3_56 (fun s14 => ?_)
    refine s_aload_n O 0 rfl rfl dJ2_add_3_57 ?_
    refine s_iload_n O 3 rfl rfl dJ2_add_3_58 ?_
    refine s_iconst O (x := 1) (by decide) dJ2_add_3_59 ?_
    refine s_iadd O dJ2_add_3_60 ?_
    refine x_put O (ci := 7) (T := TJ2) (N := 3) (ty := .int) in_J2 tyJ2 tyJ2_ok nmJ2 rfl 2 (by decide) q191 (fun _ h => h) rfl (by decide +kernel) rfl rfl dJ2_add_3_61 (fun s15 => ?_)
    exact s_return O hr rfl dJ2_add_3_64
  refine s_aload_n O 0 rfl rfl dJ2_add_3_0 ?_
  refine s_iload_n O 1 rfl rfl dJ2_add_3_1 ?_
  refine x_callV O (enc2 := eU) (ci := 7) (av := [.int x1]) (rest := []) 1 (fun v0 t0 h0 => mt_J2_rangeCheckForAdd (xL X) (xG X) hfl hg o x1 _ t0 v0 h0) (lw_V q888 q890 qs21 q135 q891) hv_J2_rangeCheckForAdd ⟨Nat.le_of_ble_eq_true rfl, Nat.le_of_ble_eq_true rfl⟩ rfl rfl (Nat.le_of_ble_eq_true rfl) dJ2_add_3_2 (fun v1 s2 => ?_)
  refine s_aload_n O 0 rfl rfl dJ2_add_3_5 ?_
  refine s_dup O rfl dJ2_add_3_6 ?_
  refine x_get O (ci := 7) (T := TJ2) (N := 3) in_J2 rfl 0 (by decide) q195 (u_same (O.hts _ q194)) dJ2_add_3_7 (fun v0 => ?_)
  refine s_vI (fun u3 => ?_)
  refine s_iconst O (x := 1) (by decide) dJ2_add_3_10 ?_
  refine s_iadd O dJ2_add_3_11 ?_
  refine x_put O (ci := 7) (T := TJ2) (N := 3) (ty := .int) in_J2 tyJ2 tyJ2_ok nmJ2 rfl 0 (by decide) q195 (u_same (O.hts _ q194)) rfl (by decide +kernel) rfl rfl dJ2_add_3_12 (fun s4 => ?_)
  refine s_aload_n O 0 rfl rfl dJ2_add_3_15 ?_
  refine x_get O (ci := 7) (T := TJ2) (N := 3) in_J2 rfl 2 (by decide) q191 (fun _ h => h) dJ2_add_3_16 (fun v0 => ?_)
  refine s_vI (fun u5 => ?_)
  refine s_dup O rfl dJ2_add_3_19 ?_
  refine s_istore_n O (L' := [(3, .int u5), (0, .ref o), (1, .int x1), (2, .ref x2)]) hm (by decide) rfl rfl dJ2_add_3_20 ?_
  refine s_aload_n O 1 rfl rfl dJ2_add_3_21 ?_
  refine x_get O (ci := 7) (T := TJ2) (N := 3) in_J2 rfl 1 (by decide) q188 (fun _ h => h) dJ2_add_3_22 (fun v0 => ?_)
  refine s_vR (fun r6 => ?_)
  refine s_dup O (va_cat _) dJ2_add_3_25 ?_
  refine s_astoreQ O (r := r6) (L' := [(3, .int u5), (0, .ref o), (1, .int x1), (2, .ref x2)]) hm (by decide) (fun _ => rfl) dJ2_add_3_26 ?_
  refine s_dr (fun p7 hp8 => ?_)
  subst hp8
  refine x_alen O dJ2_add_3_28 (fun u9 => ?_)
  refine s_icmp_ne O (tgt := 38) dJ2_add_3_29 (by decide) ?_ ?_
  · refine Sim.sub (L' := [(0, .ref o), (1, .int x1), (2, .ref x2), (3, .int u5), (4, va_rf (some p7))]) [2, 3, 4, 1, 0] rfl ?_
    exact hj38 u5 (some p7) _
  · refine s_aload_n O 2 rfl rfl dJ2_add_3_32 ?_
    refine x_callV O (enc2 := eR) (ci := 7) (av := []) (rest := []) 0 (fun v0 t0 h0 => mt_J2_grow (xL X) (xG X) hfl hg o _ t0 v0 h0) (lw_V q730 q732 qs17 q135 q733) hv_J2_grow ⟨Nat.le_of_ble_eq_true rfl, Nat.le_of_ble_eq_true rfl⟩ rfl rfl (Nat.le_of_ble_eq_true rfl) dJ2_add_3_33 (fun r16 s17 => ?_)
    refine s_astoreQ O (r := r16) (L' := [(3, .int u5), (0, .ref o), (1, .int x1), (2, .ref x2)]) hm (by decide) (fun _ => rfl) dJ2_add_3_36 ?_
    refine Sim.sub (L' := [(0, .ref o), (1, .int x1), (2, .ref x2), (3, .int u5), (4, va_rf r16)]) [2, 3, 4, 1, 0] rfl ?_
    exact hj38 u5 r16 _
theorem mt_J2_add_3 (l : Launch) (G : XG) (hfl : l.stackTraces = false) (hg : G.2.2.2.2 = zAll G.1.1 G.1.2.2.2 G.2.2.2.1) (o : Nat) (x1 : Int32) (x2 : Nat) (s t : XS) (v : Unit) (h : j2_add_3 o x1 x2 s = some (v, t)) : xMet l yJ2_add_3 (ws_ yJ2_add_3 cJ2_add_3 5 none) 5 147 G (xI s) [.ref o, .int x1, .ref x2] (eU v) (xI t) :=
  xMet_of (E := xI) (enc := eU) (by decide +kernel) (Nat.le_of_ble_eq_true rfl) (fun X hl hG O hr hm => by subst hl; subst hG; exact wk_J2_add_3 O hfl hg hr hm o x1 x2 s) h
theorem hd_X1_with : yX1_with.cls ≠ "java/lang/invoke/MethodHandle" ∧ yX1_with.cls ≠ "java/lang/invoke/VarHandle" ∧ (parseMethodDescriptor yX1_with.desc).map (fun d => d.parameters.length) = some 1 := by decide +kernel
theorem hv_X1_with : yX1_with.cls = RX1 ∧ yX1_with.cls ≠ "java/lang/invoke/MethodHandle" ∧ yX1_with.cls ≠ "java/lang/invoke/VarHandle" ∧ (parseMethodDescriptor yX1_with.desc).map (fun d => d.parameters.length) = some 1 := ⟨rfl, hd_X1_with⟩
theorem hu_X1_with : yX1_with.name ≠ "<init>" ∧ (parseMethodDescriptor yX1_with.desc).map (fun d => d.parameters.length) = some 1 := ⟨by decide +kernel, hd_X1_with.2.2⟩
set_option maxHeartbeats 4000000 in
set_option maxRecDepth 100000 in
theorem wk_X1_with {X : XC} (O : XOk X cX1_with RX1 6 171) (hfl : (xL X).stackTraces = false) (hg : (xG X).2.2.2.2 = zAll (xG X).1.1 (xG X).1.2.2.2 (xG X).2.2.2.1) (hr : (xMeth X).sig.returnType = (some (.object "QuotientRows$State"))) (hm : (xC X).maxLocals = 3) (o : Nat) (x1 : Nat) (s : XS) : Sim X xI (retC X eR xI) 0 [(0, .ref o), (1, .ref x1)] [] s (x1_with o x1 s) := by
  have hzz := O.hst
  rw [hg] at hzz
  unfold x1_with
  have hj110 : ∀ (x2_110 : Int32) (s47 : XS), Sim X (xI) (retC X eR xI) 110 [(0, .ref o), (1, .ref x1), (2, .int x2_110)] [] s47 (x1_with_j110 o x1 x2_110 s47) := by
    intro x2_110 s47
    unfold x1_with_j110
    refine s_aload_n O 0 rfl rfl dX1_with_110 ?_
    refine x_get O (ci := 1) (T := TX1) (N := 6) in_X1 rfl 1 (by decide) q207 (fun _ h => h) dX1_with_111 (fun v0 => ?_)
    refine s_vR (fun r48 => ?_)
    refine s_iload_n O 2 rfl rfl dX1_with_114 ?_
    refine s_aload_n O 1 rfl rfl dX1_with_115 ?_
    refine s_dr (fun p49 hp50 => ?_)
    subst hp50
    refine x_callF O (enc2 := eU) (ci := 7) (av := [.int x2_110, .ref x1]) (rest := []) 2 (fun v0 t0 h0 => mt_J2_add_3 (xL X) (xG X) hfl hg p49 x2_110 x1 _ t0 v0 h0) (lw_F q880 q883 q885 q135 q887) (zw_5 hzz) hf_J2_add_3 ⟨Nat.le_of_ble_eq_true rfl, Nat.le_of_ble_eq_true rfl⟩ rfl rfl (Nat.le_of_ble_eq_true rfl) dX1_with_116 (fun v51 s52 => ?_)
    refine s_aload_n O 0 rfl rfl dX1_with_121 ?_
    exact s_areturnQ O (r := (some o)) hr (Or.inl ⟨_, rfl⟩) rfl dX1_with_122
  refine s_aload_n O 0 rfl rfl dX1_with_0 ?_
  refine s_aload_n O 1 rfl rfl dX1_with_1 ?_
  refine x_getN O (ci := 5) (T := TX5) (N := 2) in_X5 rfl 0 (by decide) (zf_q707 hzz) (fun _ h => h) dX1_with_2 (fun v0 => ?_)
  refine s_vR (fun r1 => ?_)
  refine s_dr (fun p2 hp3 => ?_)
  subst hp3
  refine x_callV O (enc2 := eI) (ci := 1) (av := [.ref p2]) (rest := []) 1 (fun v0 t0 h0 => mt_X1_covers (xL X) (xG X) hfl hg o p2 _ t0 v0 h0) (lw_V q834 q835 q836 q132 q837) hv_X1_covers ⟨Nat.le_of_ble_eq_true rfl, Nat.le_of_ble_eq_true rfl⟩ rfl rfl (Nat.le_of_ble_eq_true rfl) dX1_with_5 (fun v4 s5 => ?_)
  refine s_if_eq O (tgt := 13) dX1_with_8 (by decide) ?_ ?_
  · refine s_aload_n O 0 rfl rfl dX1_with_13 ?_
    refine x_get O (ci := 1) (T := TX1) (N := 6) in_X1 rfl 1 (by decide) q207 (fun _ h => h) dX1_with_14 (fun v0 => ?_)
    refine s_vR (fun r6 => ?_)
    refine s_dr (fun p7 hp8 => ?_)
    subst hp8
    refine x_callF O (enc2 := eI) (ci := 7) (av := []) (rest := []) 0 (fun v0 t0 h0 => mt_J2_size (xL X) (xG X) hfl hg p7 _ t0 v0 h0) (lw_F q839 q695 q697 q135 q699) (zw_0 hzz) hf_J2_size ⟨Nat.le_of_ble_eq_true rfl, Nat.le_of_ble_eq_true rfl⟩ rfl rfl (Nat.le_of_ble_eq_true rfl) dX1_with_17 (fun v9 s10 => ?_)
    refine s_iconst O (x := 1) (by decide) dX1_with_22 ?_
    refine s_isub O dX1_with_23 ?_
    refine s_nmi fun u11 => ?_
    refine s_istore_n O (L' := [(2, .int u11), (0, .ref o), (1, .ref x1)]) hm (by decide) rfl rfl dX1_with_24 ?_
    refine Sim.sub (L' := [(0, .ref o), (1, .ref x1), (2, .int u11)]) [1, 2, 0] rfl ?_
    refine s_while (A := Int32) (B := Unit) (La := fun a25 => [(0, .ref o), (1, .ref x1), (2, .int a25)]) (We := fun b25 s30 => xWX X 69 [(0, .ref o), (1, .ref x1)] [] ((xI) s30)) rfl rfl ?_ ?_
    · intro Cl hn he a25 s12
      unfold x1_with_s25
      refine s_iload_n O 2 rfl rfl dX1_with_25 ?_
      refine s_if_lt O (tgt := 69) dX1_with_26 (by decide) ?_ ?_
      · refine Sim.sub (L' := [(0, .ref o), (1, .ref x1)]) [0, 1] rfl ?_
        exact Sim.ret (he _ _)
      · refine s_aload_n O 1 rfl rfl dX1_with_29 ?_
        refine s_aload_n O 0 rfl rfl dX1_with_30 ?_
        refine x_get O (ci := 1) (T := TX1) (N := 6) in_X1 rfl 1 (by decide) q207 (fun _ h => h) dX1_with_31 (fun v0 => ?_)
        refine s_vR (fun r13 => ?_)
        refine s_iload_n O 2 rfl rfl dX1_with_34 ?_
        refine s_dr (fun p14 hp15 => ?_)
        subst hp15
        refine x_callF O (enc2 := eR) (ci := 7) (av := [.int a25]) (rest := [.ref x1]) 1 (fun v0 t0 h0 => mt_J2_get (xL X) (xG X) hfl hg p14 a25 _ t0 v0 h0) (lw_F q841 q844 q846 q135 q848) (zw_3 hzz) hf_J2_get ⟨Nat.le_of_ble_eq_true rfl, Nat.le_of_ble_eq_true rfl⟩ rfl rfl (Nat.le_of_ble_eq_true rfl) dX1_with_35 (fun r16 s17 => ?_)
        refine s_dr (fun p18 hp19 => ?_)
        subst hp19
        refine x_cast O (ci := 5) rfl q829 dX1_with_40 ?_
        refine x_getN O (ci := 5) (T := TX5) (N := 2) in_X5 rfl 0 (by decide) (zf_q707 hzz) (fun _ h => h) dX1_with_43 (fun v0 => ?_)
        refine s_vR (fun r20 => ?_)
        refine s_dr (fun p21 hp22 => ?_)
        subst hp22
        refine x_callV O (enc2 := eI) (ci := 5) (av := [.ref p21]) (rest := []) 1 (fun v0 t0 h0 => mt_X5_fits (xL X) (xG X) hfl hg x1 p21 _ t0 v0 h0) (lw_V q857 q858 q859 q151 q860) hv_X5_fits ⟨Nat.le_of_ble_eq_true rfl, Nat.le_of_ble_eq_true rfl⟩ rfl rfl (Nat.le_of_ble_eq_true rfl) dX1_with_46 (fun v23 s24 => ?_)
        refine s_if_eq O (tgt := 63) dX1_with_49 (by decide) ?_ ?_
        · refine s_iinc O (y := (a25 + (-1))) (L' := [(2, .int (a25 + (-1))), (0, .ref o), (1, .ref x1)]) 2 rfl hm (by decide) (congrArg (HAdd.hAdd a25) (by decide)) rfl dX1_with_63 ?_
          refine s_goto O (tgt := 25) dX1_with_66 (by decide) ?_
          refine Sim.sub (L' := [(0, .ref o), (1, .ref x1), (2, .int (a25 + (-1)))]) [1, 2, 0] rfl ?_
          exact Sim.ret (hn _ _)
        · refine s_aload_n O 0 rfl rfl dX1_with_52 ?_
          refine x_get O (ci := 1) (T := TX1) (N := 6) in_X1 rfl 1 (by decide) q207 (fun _ h => h) dX1_with_53 (fun v0 => ?_)
          refine s_vR (fun r25 => ?_)
          refine s_iload_n O 2 rfl rfl dX1_with_56 ?_
          refine s_dr (fun p26 hp27 => ?_)
          subst hp27
          refine x_callF O (enc2 := eR) (ci := 7) (av := [.int a25]) (rest := []) 1 (fun v0 t0 h0 => mt_J2_remove (xL X) (xG X) hfl hg p26 a25 _ t0 v0 h0) (lw_F q862 q865 q867 q135 q869) (zw_4 hzz) hf_J2_remove ⟨Nat.le_of_ble_eq_true rfl, Nat.le_of_ble_eq_true rfl⟩ rfl rfl (Nat.le_of_ble_eq_true rfl) dX1_with_57 (fun r28 s29 => ?_)
          refine s_pop O (va_cat _) dX1_with_62 ?_
          refine s_iinc O (y := (a25 + (-1))) (L' := [(2, .int (a25 + (-1))), (0, .ref o), (1, .ref x1)]) 2 rfl hm (by decide) (congrArg (HAdd.hAdd a25) (by decide)) rfl dX1_with_63 ?_
          refine s_goto O (tgt := 25) dX1_with_66 (by decide) ?_
          refine Sim.sub (L' := [(0, .ref o), (1, .ref x1), (2, .int (a25 + (-1)))]) [1, 2, 0] rfl ?_
          exact Sim.ret (hn _ _)
    · intro b25 s30
      show Sim X (xI) (retC X eR xI) 69 [(0, .ref o), (1, .ref x1)] [] s30 _
      refine s_iconst O (x := 0) (by decide) dX1_with_69 ?_
      refine s_istore_n O (L' := [(2, .int 0), (0, .ref o), (1, .ref x1)]) hm (by decide) rfl rfl dX1_with_70 ?_
      refine Sim.sub (L' := [(0, .ref o), (1, .ref x1), (2, .int 0)]) [1, 2, 0] rfl ?_
      refine s_while (A := Int32) (B := Int32) (La := fun a71 => [(0, .ref o), (1, .ref x1), (2, .int a71)]) (We := fun b71 s46 => xWX X 110 [(0, .ref o), (1, .ref x1), (2, .int b71)] [] ((xI) s46)) rfl rfl ?_ ?_
      · intro Cl hn he a71 s31
        unfold x1_with_s71
        refine s_iload_n O 2 rfl rfl dX1_with_71 ?_
        refine s_aload_n O 0 rfl rfl dX1_with_72 ?_
        refine x_get O (ci := 1) (T := TX1) (N := 6) in_X1 rfl 1 (by decide) q207 (fun _ h => h) dX1_with_73 (fun v0 => ?_)
        refine s_vR (fun r32 => ?_)
        refine s_dr (fun p33 hp34 => ?_)
        subst hp34
        refine x_callF O (enc2 := eI) (ci := 7) (av := []) (rest := [.int a71]) 0 (fun v0 t0 h0 => mt_J2_size (xL X) (xG X) hfl hg p33 _ t0 v0 h0) (lw_F q839 q695 q697 q135 q699) (zw_0 hzz) hf_J2_size ⟨Nat.le_of_ble_eq_true rfl, Nat.le_of_ble_eq_true rfl⟩ rfl rfl (Nat.le_of_ble_eq_true rfl) dX1_with_76 (fun v35 s36 => ?_)
        refine s_icmp_ge O (tgt := 110) dX1_with_81 (by decide) ?_ ?_
        · exact Sim.ret (he _ _)
        · refine s_aload_n O 0 rfl rfl dX1_with_84 ?_
          refine x_get O (ci := 1) (T := TX1) (N := 6) in_X1 rfl 1 (by decide) q207 (fun _ h => h) dX1_with_85 (fun v0 => ?_)
          refine s_vR (fun r37 => ?_)
          refine s_iload_n O 2 rfl rfl dX1_with_88 ?_
          refine s_dr (fun p38 hp39 => ?_)
          subst hp39
          refine x_callF O (enc2 := eR) (ci := 7) (av := [.int a71]) (rest := []) 1 (fun v0 t0 h0 => mt_J2_get (xL X) (xG X) hfl hg p38 a71 _ t0 v0 h0) (lw_F q841 q844 q846 q135 q848) (zw_3 hzz) hf_J2_get ⟨Nat.le_of_ble_eq_true rfl, Nat.le_of_ble_eq_true rfl⟩ rfl rfl (Nat.le_of_ble_eq_true rfl) dX1_with_89 (fun r40 s41 => ?_)
          refine s_dr (fun p42 hp43 => ?_)
          subst hp43
          refine x_cast O (ci := 5) rfl q829 dX1_with_94 ?_
          refine s_aload_n O 1 rfl rfl dX1_with_97 ?_
          refine x_callV O (enc2 := eI) (ci := 5) (av := [.ref x1]) (rest := []) 1 (fun v0 t0 h0 => mt_X5_isLess (xL X) (xG X) hfl hg p42 x1 _ t0 v0 h0) (lw_V q875 q876 q877 q151 q878) hv_X5_isLess ⟨Nat.le_of_ble_eq_true rfl, Nat.le_of_ble_eq_true rfl⟩ rfl rfl (Nat.le_of_ble_eq_true rfl) dX1_with_98 (fun v44 s45 => ?_)
          refine s_if_eq O (tgt := 110) dX1_with_101 (by decide) ?_ ?_
          · exact Sim.ret (he _ _)
          · refine s_iinc O (y := (a71 + 1)) (L' := [(2, .int (a71 + 1)), (0, .ref o), (1, .ref x1)]) 2 rfl hm (by decide) rfl rfl dX1_with_104 ?_
            refine s_goto O (tgt := 71) dX1_with_107 (by decide) ?_
            refine Sim.sub (L' := [(0, .ref o), (1, .ref x1), (2, .int (a71 + 1))]) [1, 2, 0] rfl ?_
            exact Sim.ret (hn _ _)
      · intro b71 s46
        show Sim X (xI) (retC X eR xI) 110 [(0, .ref o), (1, .ref x1), (2, .int b71)] [] s46 _
        exact hj110 b71 _
  · refine s_aload_n O 0 rfl rfl dX1_with_11 ?_
    exact s_areturnQ O (r := (some o)) hr (Or.inl ⟨_, rfl⟩) rfl dX1_with_12
theorem mt_X1_with (l : Launch) (G : XG) (hfl : l.stackTraces = false) (hg : G.2.2.2.2 = zAll G.1.1 G.1.2.2.2 G.2.2.2.1) (o : Nat) (x1 : Nat) (s t : XS) (v : Option Nat) (h : x1_with o x1 s = some (v, t)) : xMet l yX1_with (ws_ yX1_with cX1_with 3 (some (.object "QuotientRows$State"))) 6 171 G (xI s) [.ref o, .ref x1] (eR v) (xI t) :=
  xMet_of (E := xI) (enc := eR) (by decide +kernel) (Nat.le_of_ble_eq_true rfl) (fun X hl hG O hr hm => by subst hl; subst hG; exact wk_X1_with O hfl hg hr hm o x1 s) h
theorem hd_X1_withAll : yX1_withAll.cls ≠ "java/lang/invoke/MethodHandle" ∧ yX1_withAll.cls ≠ "java/lang/invoke/VarHandle" ∧ (parseMethodDescriptor yX1_withAll.desc).map (fun d => d.parameters.length) = some 1 := by decide +kernel
theorem hv_X1_withAll : yX1_withAll.cls = RX1 ∧ yX1_withAll.cls ≠ "java/lang/invoke/MethodHandle" ∧ yX1_withAll.cls ≠ "java/lang/invoke/VarHandle" ∧ (parseMethodDescriptor yX1_withAll.desc).map (fun d => d.parameters.length) = some 1 := ⟨rfl, hd_X1_withAll⟩
theorem hu_X1_withAll : yX1_withAll.name ≠ "<init>" ∧ (parseMethodDescriptor yX1_withAll.desc).map (fun d => d.parameters.length) = some 1 := ⟨by decide +kernel, hd_X1_withAll.2.2⟩
set_option maxHeartbeats 4000000 in
set_option maxRecDepth 100000 in
theorem wk_X1_withAll {X : XC} (O : XOk X cX1_withAll RX1 7 193) (hfl : (xL X).stackTraces = false) (hg : (xG X).2.2.2.2 = zAll (xG X).1.1 (xG X).1.2.2.2 (xG X).2.2.2.1) (hr : (xMeth X).sig.returnType = (some (.object "QuotientRows$State"))) (hm : (xC X).maxLocals = 4) (o : Nat) (x1 : Nat) (s : XS) : Sim X xI (retC X eR xI) 0 [(0, .ref o), (1, .ref x1)] [] s (x1_withAll o x1 s) := by
  have hzz := O.hst
  rw [hg] at hzz
  unfold x1_withAll
  refine s_aload_n O 1 rfl rfl dX1_withAll_0 ?_
  refine x_callF O (enc2 := eR) (ci := 7) (av := []) (rest := []) 0 (fun v0 t0 h0 => mt_J2_iterator (xL X) (xG X) hfl hg x1 _ t0 v0 h0) (lw_F q779 q782 q784 q135 q786) (zw_2 hzz) hf_J2_iterator ⟨Nat.le_of_ble_eq_true rfl, Nat.le_of_ble_eq_true rfl⟩ rfl rfl (Nat.le_of_ble_eq_true rfl) dX1_withAll_1 (fun r1 s2 => ?_)
  refine s_astore_nQ O (r := r1) (L' := [(0, .ref o), (1, .ref x1)]) rfl hm (by decide) (fun _ => rfl) dX1_withAll_6 ?_
  refine Sim.sub (L' := [(0, .ref o), (2, va_rf r1)]) [1, 0] rfl ?_
  refine s_while (A := Unit) (B := Unit) (La := fun _ => [(0, .ref o), (2, va_rf r1)]) (We := fun b7 s14 => xWX X 35 [(0, .ref o)] [] ((xI) s14)) rfl rfl ?_ ?_
  · intro Cl hn he a7 s3
    unfold x1_withAll_s7
    refine s_aload_nQ O 1 rfl rfl dX1_withAll_7 ?_
    refine s_dr (fun p4 hp5 => ?_)
    subst hp5
    refine x_callF O (enc2 := eI) (ci := 8) (av := []) (rest := []) 0 (fun v0 t0 h0 => mt_J14_hasNext (xL X) (xG X) hfl hg p4 _ t0 v0 h0) (lw_F q807 q811 q813 q152 q815) (zw_7 hzz) hf_J14_hasNext ⟨Nat.le_of_ble_eq_true rfl, Nat.le_of_ble_eq_true rfl⟩ rfl rfl (Nat.le_of_ble_eq_true rfl) dX1_withAll_8 (fun v6 s7 => ?_)
    refine s_if_eq O (tgt := 35) dX1_withAll_13 (by decide) ?_ ?_
    · refine Sim.sub (L' := [(0, .ref o)]) [0] rfl ?_
      exact Sim.ret (he _ _)
    · refine s_aload_n O 1 rfl rfl dX1_withAll_16 ?_
      refine x_callF O (enc2 := eR) (ci := 8) (av := []) (rest := []) 0 (fun v0 t0 h0 => mt_J14_next (xL X) (xG X) hfl hg p4 _ t0 v0 h0) (lw_F q817 q820 q822 q152 q824) (zw_8 hzz) hf_J14_next ⟨Nat.le_of_ble_eq_true rfl, Nat.le_of_ble_eq_true rfl⟩ rfl rfl (Nat.le_of_ble_eq_true rfl) dX1_withAll_17 (fun r8 s9 => ?_)
      refine s_dr (fun p10 hp11 => ?_)
      subst hp11
      refine x_cast O (ci := 5) rfl q829 dX1_withAll_22 ?_
      refine s_astore_n O (L' := [(3, .ref p10), (0, .ref o), (2, .ref p4)]) hm (by decide) rfl rfl dX1_withAll_25 ?_
      refine s_aload_n O 1 rfl rfl dX1_withAll_26 ?_
      refine s_aload_n O 0 rfl rfl dX1_withAll_27 ?_
      refine x_callV O (enc2 := eR) (ci := 1) (av := [.ref p10]) (rest := []) 1 (fun v0 t0 h0 => mt_X1_with (xL X) (xG X) hfl hg o p10 _ t0 v0 h0) (lw_V q830 q831 q832 q132 q833) hv_X1_with ⟨Nat.le_of_ble_eq_true rfl, Nat.le_of_ble_eq_true rfl⟩ rfl rfl (Nat.le_of_ble_eq_true rfl) dX1_withAll_28 (fun r12 s13 => ?_)
      refine s_pop O (va_cat _) dX1_withAll_31 ?_
      refine s_goto O (tgt := 7) dX1_withAll_32 (by decide) ?_
      refine Sim.sub (L' := [(0, .ref o), (2, .ref p4)]) [1, 2] rfl ?_
      exact Sim.ret (hn _ _)
  · intro b7 s14
    show Sim X (xI) (retC X eR xI) 35 [(0, .ref o)] [] s14 _
    refine s_aload_n O 0 rfl rfl dX1_withAll_35 ?_
    exact s_areturnQ O (r := (some o)) hr (Or.inl ⟨_, rfl⟩) rfl dX1_withAll_36
theorem mt_X1_withAll (l : Launch) (G : XG) (hfl : l.stackTraces = false) (hg : G.2.2.2.2 = zAll G.1.1 G.1.2.2.2 G.2.2.2.1) (o : Nat) (x1 : Nat) (s t : XS) (v : Option Nat) (h : x1_withAll o x1 s = some (v, t)) : xMet l yX1_withAll (ws_ yX1_withAll cX1_withAll 4 (some (.object "QuotientRows$State"))) 7 193 G (xI s) [.ref o, .ref x1] (eR v) (xI t) :=
  xMet_of (E := xI) (enc := eR) (by decide +kernel) (Nat.le_of_ble_eq_true rfl) (fun X hl hG O hr hm => by subst hl; subst hG; exact wk_X1_withAll O hfl hg hr hm o x1 s) h
theorem hd_X3_varsRead : yX3_varsRead.cls ≠ "java/lang/invoke/MethodHandle" ∧ yX3_varsRead.cls ≠ "java/lang/invoke/VarHandle" ∧ (parseMethodDescriptor yX3_varsRead.desc).map (fun d => d.parameters.length) = some 0 := by decide +kernel
theorem hv_X3_varsRead : yX3_varsRead.cls = RX3 ∧ yX3_varsRead.cls ≠ "java/lang/invoke/MethodHandle" ∧ yX3_varsRead.cls ≠ "java/lang/invoke/VarHandle" ∧ (parseMethodDescriptor yX3_varsRead.desc).map (fun d => d.parameters.length) = some 0 := ⟨rfl, hd_X3_varsRead⟩
theorem hu_X3_varsRead : yX3_varsRead.name ≠ "<init>" ∧ (parseMethodDescriptor yX3_varsRead.desc).map (fun d => d.parameters.length) = some 0 := ⟨by decide +kernel, hd_X3_varsRead.2.2⟩
set_option maxHeartbeats 4000000 in
set_option maxRecDepth 100000 in
theorem wk_X3_varsRead {X : XC} (O : XOk X cX3_varsRead RX3 6 133) (hfl : (xL X).stackTraces = false) (hg : (xG X).2.2.2.2 = zAll (xG X).1.1 (xG X).1.2.2.2 (xG X).2.2.2.1) (hr : (xMeth X).sig.returnType = none) (hm : (xC X).maxLocals = 3) (hout : ∀ x ∈ (xC X).exceptionTable.toList, False) (o : Nat) (s : XS) : Sim X xI (retCT X eU 4 xI) 0 [(0, .ref o)] [] s (x3_varsRead o s) := by
  have hzz := O.hst
  rw [hg] at hzz
  unfold x3_varsRead
  refine s_aload_n O 0 rfl rfl dX3_varsRead_0 ?_
  refine x_callV O (enc2 := eI) (ci := 3) (av := []) (rest := []) 0 (fun v0 t0 h0 => mt_X3_next (xL X) (xG X) hfl hg o _ t0 v0 h0) (lw_V q375 q377 qs6 q137 q378) hv_X3_next ⟨Nat.le_of_ble_eq_true rfl, Nat.le_of_ble_eq_true rfl⟩ rfl rfl (Nat.le_of_ble_eq_true rfl) dX3_varsRead_1 (fun v1 s2 => ?_)
  refine s_istore_n O (L' := [(1, .int v1), (0, .ref o)]) hm (by decide) rfl rfl dX3_varsRead_4 ?_
  refine s_aload_n O 1 rfl rfl dX3_varsRead_5 ?_
  refine x_callVT O (enc2 := eI) (ci := 3) (cj := 4) (av := []) (rest := []) 0 (fun v0 t0 h0 => mt_X3_number (xL X) (xG X) hfl hg o _ t0 v0 h0) (lw_V q594 q596 qs9 q137 q597) hv_X3_number ⟨Nat.le_of_ble_eq_true rfl, Nat.le_of_ble_eq_true rfl⟩ rfl rfl (Nat.le_of_ble_eq_true rfl) dX3_varsRead_6 (fun v3 s4 => ?_) (fun p18 s19 => ?_)
  · refine s_istore_n O (L' := [(2, .int v3), (1, .int v1), (0, .ref o)]) hm (by decide) rfl rfl dX3_varsRead_9 ?_
    refine s_iload_n O 0 rfl rfl dX3_varsRead_10 ?_
    refine s_i2l O dX3_varsRead_11 ?_
    refine s_lconst O (x := 1) (by decide) dX3_varsRead_12 ?_
    refine s_ldc2 O (x := 4) q676 dX3_varsRead_13 ?_
    refine s_callPN O (enc2 := eI) (av := [.long v3.toInt64, .long 1, .long 4]) (rest := []) 3 (fun v0 h0 => mt_X0_isIn (xL X) (xG X) _ v3.toInt64 1 4 v0 h0) q319 (zm_q385 hzz) q131 q318 hd_X0_isIn ⟨Nat.le_of_ble_eq_true rfl, Nat.le_of_ble_eq_true rfl⟩ rfl (Nat.le_of_ble_eq_true rfl) dX3_varsRead_16 (fun v5 => ?_)
    refine s_if_ne O (tgt := 32) dX3_varsRead_19 (by decide) ?_ ?_
    · refine s_aload_n O 2 rfl rfl dX3_varsRead_32 ?_
      refine s_iload_n O 0 rfl rfl dX3_varsRead_33 ?_
      refine x_put O (ci := 3) (T := TX3) (N := 8) (ty := .int) in_X3 tyX3 tyX3_ok nmX3 rfl 3 (by decide) q340 (fun _ h => h) rfl (by decide +kernel) rfl rfl dX3_varsRead_34 (fun s7 => ?_)
      refine s_aload_n O 2 rfl rfl dX3_varsRead_37 ?_
      refine x_callV O (enc2 := eI) (ci := 3) (av := []) (rest := []) 0 (fun v0 t0 h0 => mt_X3_takesEnd (xL X) (xG X) hfl hg o _ t0 v0 h0) (lw_V q677 q679 qs13 q137 q680) hv_X3_takesEnd ⟨Nat.le_of_ble_eq_true rfl, Nat.le_of_ble_eq_true rfl⟩ rfl rfl (Nat.le_of_ble_eq_true rfl) dX3_varsRead_38 (fun v8 s9 => ?_)
      refine s_if_ne O (tgt := 49) dX3_varsRead_41 (by decide) ?_ ?_
      · exact s_returnT O hr rfl dX3_varsRead_49
      · refine s_aload_n O 2 rfl rfl dX3_varsRead_44 ?_
        refine x_callV O (enc2 := eR) (ci := 3) (av := []) (rest := []) 0 (fun v0 t0 h0 => mt_X3_unlike (xL X) (xG X) hfl hg o _ t0 v0 h0) (lw_V q604 q606 qs11 q137 q607) hv_X3_unlike ⟨Nat.le_of_ble_eq_true rfl, Nat.le_of_ble_eq_true rfl⟩ rfl rfl (Nat.le_of_ble_eq_true rfl) dX3_varsRead_45 (fun r10 s11 => ?_)
        refine s_dr (fun p12 hp13 => ?_)
        subst hp13
        refine x_athrow O (ci := 4) rfl dX3_varsRead_48 ?_
        exact sx_out O hout
    · refine x_new O (ci := 4) (T := TX4) (N := 8) (fs := dfX4) in_X4 tyX4 tyX4_ok rfl 8 q608 q609 q150 rfl dfX4_ok dX3_varsRead_22 (fun p14 s15 => ?_)
      refine s_dup O rfl dX3_varsRead_25 ?_
      refine s_iconst O (x := 2) (by decide) dX3_varsRead_26 ?_
      refine s_iload_n O 1 rfl rfl dX3_varsRead_27 ?_
      refine x_callI O (enc2 := eU) (av := [.int 2, .int v1]) (rest := [.ref p14]) 2 (fun v0 t0 h0 => mt_X4_init (xL X) (xG X) hfl hg p14 2 v1 _ t0 v0 h0) q648 q150 q646 q647 rfl hd_X4_init ⟨Nat.le_of_ble_eq_true rfl, Nat.le_of_ble_eq_true rfl⟩ rfl (Nat.le_of_ble_eq_true rfl) dX3_varsRead_28 (fun v16 s17 => ?_)
      refine x_athrow O (ci := 4) rfl dX3_varsRead_31 ?_
      exact sx_out O hout
  · exact sx_out O hout
theorem mt_X3_varsRead (l : Launch) (G : XG) (hfl : l.stackTraces = false) (hg : G.2.2.2.2 = zAll G.1.1 G.1.2.2.2 G.2.2.2.1) (o : Nat) (s t : XS) (v : (Unit) ⊕ Nat) (h : x3_varsRead o s = some (v, t)) : xMetT l yX3_varsRead (ws_ yX3_varsRead cX3_varsRead 3 none) 6 133 G (xI s) [.ref o] eU 4 v (xI t) :=
  xMetT_of (E := xI) (enc := eU) (by decide +kernel) (Nat.le_of_ble_eq_true rfl) (fun X hl hG O hr hm hout => by subst hl; subst hG; exact wk_X3_varsRead O hfl hg hr hm hout o s) h
theorem hd_X3_read : yX3_read.cls ≠ "java/lang/invoke/MethodHandle" ∧ yX3_read.cls ≠ "java/lang/invoke/VarHandle" ∧ (parseMethodDescriptor yX3_read.desc).map (fun d => d.parameters.length) = some 0 := by decide +kernel
theorem hv_X3_read : yX3_read.cls = RX3 ∧ yX3_read.cls ≠ "java/lang/invoke/MethodHandle" ∧ yX3_read.cls ≠ "java/lang/invoke/VarHandle" ∧ (parseMethodDescriptor yX3_read.desc).map (fun d => d.parameters.length) = some 0 := ⟨rfl, hd_X3_read⟩
theorem hu_X3_read : yX3_read.name ≠ "<init>" ∧ (parseMethodDescriptor yX3_read.desc).map (fun d => d.parameters.length) = some 0 := ⟨by decide +kernel, hd_X3_read.2.2⟩
set_option maxHeartbeats 4000000 in
set_option maxRecDepth 100000 in
theorem wk_X3_read {X : XC} (O : XOk X cX3_read RX3 9 237) (hfl : (xL X).stackTraces = false) (hg : (xG X).2.2.2.2 = zAll (xG X).1.1 (xG X).1.2.2.2 (xG X).2.2.2.1) (hr : (xMeth X).sig.returnType = (some (.object "QuotientRows$State"))) (hm : (xC X).maxLocals = 2) (hout : ∀ x ∈ (xC X).exceptionTable.toList, False) (o : Nat) (s : XS) : Sim X xI (retCT X eR 4 xI) 0 [(0, .ref o)] [] s (x3_read o s) := by
  have hzz := O.hst
  rw [hg] at hzz
  unfold x3_read
  have hj13 : ∀ (s6 : XS), Sim X (xI) (retCT X eR 4 xI) 13 [(0, .ref o)] [] s6 (x3_read_j13 o s6) := by
    intro s6
    unfold x3_read_j13
    refine s_while (A := Unit) (B := (Unit) ⊕ (Nat)) (La := fun _ => [(0, .ref o)]) (We := fun bb0 s15 => match bb0 with | .inl b13 => xWX X 31 [(0, .ref o)] [] ((xI) s15) | .inr b13 => ∀ (pc9 : Nat) (L9 : List (Nat × Value)) (rest9 : List Value), xVX X pc9 L9 rest9 ((xI) s15) b13 4) rfl rfl ?_ ?_
    · intro Cl hn he a13 s7
      unfold x3_read_s13
      refine s_aload_n O 0 rfl rfl dX3_read_13 ?_
      refine x_callV O (enc2 := eI) (ci := 3) (av := []) (rest := []) 0 (fun v0 t0 h0 => mt_X3_next (xL X) (xG X) hfl hg o _ t0 v0 h0) (lw_V q375 q377 qs6 q137 q378) hv_X3_next ⟨Nat.le_of_ble_eq_true rfl, Nat.le_of_ble_eq_true rfl⟩ rfl rfl (Nat.le_of_ble_eq_true rfl) dX3_read_14 (fun v8 s9 => ?_)
      refine s_aload_n O 0 rfl rfl dX3_read_17 ?_
      refine x_get O (ci := 3) (T := TX3) (N := 8) in_X3 rfl 0 (by decide) q337 (fun _ h => h) dX3_read_18 (fun v0 => ?_)
      refine s_vI (fun u10 => ?_)
      refine s_icmp_ge O (tgt := 31) dX3_read_21 (by decide) ?_ ?_
      · exact Sim.ret (he _ _)
      · refine s_aload_n O 0 rfl rfl dX3_read_24 ?_
        refine x_callVT O (enc2 := eU) (ci := 3) (cj := 4) (av := []) (rest := []) 0 (fun v0 t0 h0 => mt_X3_statement (xL X) (xG X) hfl hg o _ t0 v0 h0) (lw_V q681 q683 qs14 q137 q684) hv_X3_statement ⟨Nat.le_of_ble_eq_true rfl, Nat.le_of_ble_eq_true rfl⟩ rfl rfl (Nat.le_of_ble_eq_true rfl) dX3_read_25 (fun v11 s12 => ?_) (fun p13 s14 => ?_)
        · refine s_goto O (tgt := 13) dX3_read_28 (by decide) ?_
          exact Sim.ret (hn _ _)
        · exact SimX.ret (fun hc0 => he _ _ hc0 _ _ _)
    · intro bb0 s15
      rcases bb0 with b13 | b13
      · show Sim X (xI) (retCT X eR 4 xI) 31 [(0, .ref o)] [] s15 _
        dsimp only
        refine s_aload_n O 0 rfl rfl dX3_read_31 ?_
        refine x_get O (ci := 3) (T := TX3) (N := 8) in_X3 rfl 6 (by decide) q343 (fun _ h => h) dX3_read_32 (fun v0 => ?_)
        refine s_vI (fun u16 => ?_)
        refine x_newI O q204 dX3_read_35 (fun p17 s18 => ?_)
        refine s_astore_n O (L' := [(1, .ref p17), (0, .ref o)]) hm (by decide) rfl rfl dX3_read_37 ?_
        refine s_aload_n O 1 rfl rfl dX3_read_38 ?_
        refine x_get O (ci := 3) (T := TX3) (N := 8) in_X3 rfl 5 (by decide) q342 (fun _ h => h) dX3_read_39 (fun v0 => ?_)
        refine s_vR (fun r19 => ?_)
        refine s_iconst O (x := 0) (by decide) dX3_read_42 ?_
        refine s_aload_n O 0 rfl rfl dX3_read_43 ?_
        refine s_iconst O (x := 0) (by decide) dX3_read_44 ?_
        refine s_aload_n O 1 rfl rfl dX3_read_45 ?_
        refine x_get O (ci := 3) (T := TX3) (N := 8) in_X3 rfl 6 (by decide) q343 (fun _ h => h) dX3_read_46 (fun v0 => ?_)
        refine s_vI (fun u20 => ?_)
        refine s_dr (fun p21 hp22 => ?_)
        subst hp22
        refine x_acI O (t := 0) (by decide) q771 q459 q458 q145 ⟨Nat.le_of_ble_eq_true rfl, by decide⟩ (Nat.le_of_ble_eq_true rfl) dX3_read_49 (fun s23 => ?_)
        refine x_new O (ci := 1) (T := TX1) (N := 6) (fs := dfX1) in_X1 tyX1 tyX1_ok rfl 6 q772 q166 q132 rfl dfX1_ok dX3_read_52 (fun p24 s25 => ?_)
        refine s_dup O rfl dX3_read_55 ?_
        refine s_aload_n O 1 rfl rfl dX3_read_56 ?_
        refine x_get O (ci := 3) (T := TX3) (N := 8) in_X3 rfl 3 (by decide) q340 (fun _ h => h) dX3_read_57 (fun v0 => ?_)
        refine s_vI (fun u26 => ?_)
        refine s_aload_n O 0 rfl rfl dX3_read_60 ?_
        refine x_callI O (enc2 := eU) (av := [.int u26, .ref p17]) (rest := [.ref p24]) 2 (fun v0 t0 h0 => mt_X1_init_2 (xL X) (xG X) hfl hg p24 u26 p17 _ t0 v0 h0) q172 q132 q773 q171 rfl hd_X1_init_2 ⟨Nat.le_of_ble_eq_true rfl, Nat.le_of_ble_eq_true rfl⟩ rfl (Nat.le_of_ble_eq_true rfl) dX3_read_61 (fun v27 s28 => ?_)
        refine s_aload_n O 1 rfl rfl dX3_read_64 ?_
        refine x_get O (ci := 3) (T := TX3) (N := 8) in_X3 rfl 4 (by decide) q341 (fun _ h => h) dX3_read_65 (fun v0 => ?_)
        refine s_vR (fun r29 => ?_)
        refine s_dr (fun p30 hp31 => ?_)
        subst hp31
        refine x_callV O (enc2 := eR) (ci := 1) (av := [.ref p30]) (rest := []) 1 (fun v0 t0 h0 => mt_X1_withAll (xL X) (xG X) hfl hg p24 p30 _ t0 v0 h0) (lw_V q774 q775 q776 q132 q777) hv_X1_withAll ⟨Nat.le_of_ble_eq_true rfl, Nat.le_of_ble_eq_true rfl⟩ rfl rfl (Nat.le_of_ble_eq_true rfl) dX3_read_68 (fun r32 s33 => ?_)
        exact s_areturnT O (r := r32) hr (Or.inl ⟨_, rfl⟩) rfl dX3_read_71
      · dsimp only
        intro v9 t9 hr9 hc9 pc9 L9 rest9
        exact sx_out O hout v9 t9 hr9 hc9
  refine s_aload_n O 0 rfl rfl dX3_read_0 ?_
  refine x_ldcS O (j := 5) (zt_0 hzz) dX3_read_1 ?_
  refine s_nmQ (fun r1 => ?_)
  refine s_dr (fun p2 hp3 => ?_)
  subst hp3
  refine x_callV O (enc2 := eI) (ci := 3) (av := [.ref p2]) (rest := []) 1 (fun v0 t0 h0 => mt_X3_takes (xL X) (xG X) hfl hg o p2 _ t0 v0 h0) (lw_V q367 q369 qs4 q137 q370) hv_X3_takes ⟨Nat.le_of_ble_eq_true rfl, Nat.le_of_ble_eq_true rfl⟩ rfl rfl (Nat.le_of_ble_eq_true rfl) dX3_read_3 (fun v4 s5 => ?_)
  refine s_if_eq O (tgt := 13) dX3_read_6 (by decide) ?_ ?_
  · exact hj13 _
  · refine s_aload_n O 0 rfl rfl dX3_read_9 ?_
    refine x_callVT O (enc2 := eU) (ci := 3) (cj := 4) (av := []) (rest := []) 0 (fun v0 t0 h0 => mt_X3_varsRead (xL X) (xG X) hfl hg o _ t0 v0 h0) (lw_V q590 q592 qs8 q137 q593) hv_X3_varsRead ⟨Nat.le_of_ble_eq_true rfl, Nat.le_of_ble_eq_true rfl⟩ rfl rfl (Nat.le_of_ble_eq_true rfl) dX3_read_10 (fun v34 s35 => ?_) (fun p36 s37 => ?_)
    · exact hj13 _
    · exact sx_out O hout
theorem mt_X3_read (l : Launch) (G : XG) (hfl : l.stackTraces = false) (hg : G.2.2.2.2 = zAll G.1.1 G.1.2.2.2 G.2.2.2.1) (o : Nat) (s t : XS) (v : (Option Nat) ⊕ Nat) (h : x3_read o s = some (v, t)) : xMetT l yX3_read (ws_ yX3_read cX3_read 2 (some (.object "QuotientRows$State"))) 9 237 G (xI s) [.ref o] eR 4 v (xI t) :=
  xMetT_of (E := xI) (enc := eR) (by decide +kernel) (Nat.le_of_ble_eq_true rfl) (fun X hl hG O hr hm hout => by subst hl; subst hG; exact wk_X3_read O hfl hg hr hm hout o s) h
theorem hd_X0_becomes : yX0_becomes.cls ≠ "java/lang/invoke/MethodHandle" ∧ yX0_becomes.cls ≠ "java/lang/invoke/VarHandle" ∧ (parseMethodDescriptor yX0_becomes.desc).map (fun d => d.parameters.length) = some 1 := by decide +kernel
theorem hv_X0_becomes : yX0_becomes.cls = RX0 ∧ yX0_becomes.cls ≠ "java/lang/invoke/MethodHandle" ∧ yX0_becomes.cls ≠ "java/lang/invoke/VarHandle" ∧ (parseMethodDescriptor yX0_becomes.desc).map (fun d => d.parameters.length) = some 1 := ⟨rfl, hd_X0_becomes⟩
theorem hu_X0_becomes : yX0_becomes.name ≠ "<init>" ∧ (parseMethodDescriptor yX0_becomes.desc).map (fun d => d.parameters.length) = some 1 := ⟨by decide +kernel, hd_X0_becomes.2.2⟩
set_option maxHeartbeats 4000000 in
set_option maxRecDepth 100000 in
theorem wk_X0_becomes {X : XC} (O : XOk X cX0_becomes RX0 7 191) (hfl : (xL X).stackTraces = false) (hg : (xG X).2.2.2.2 = zAll (xG X).1.1 (xG X).1.2.2.2 (xG X).2.2.2.1) (hr : (xMeth X).sig.returnType = none) (hm : (xC X).maxLocals = 2) (o : Nat) (x1 : Nat) (s : XS) : Sim X xI (retC X eU xI) 0 [(0, .ref o), (1, .ref x1)] [] s (x0_becomes o x1 s) := by
  have hzz := O.hst
  rw [hg] at hzz
  unfold x0_becomes
  have hj25 : ∀ (s6 : XS), Sim X (xI) (retC X eU xI) 25 [(0, .ref o), (1, .ref x1)] [] s6 (x0_becomes_j25 o x1 s6) := by
    intro s6
    unfold x0_becomes_j25
    refine s_aload_n O 0 rfl rfl dX0_becomes_25 ?_
    refine x_get O (ci := 0) (T := TX0) (N := 20) in_X0 rfl 6 (by decide) q237 (fun _ h => h) dX0_becomes_26 (fun v0 => ?_)
    refine s_vR (fun r7 => ?_)
    refine s_aload_n O 0 rfl rfl dX0_becomes_29 ?_
    refine x_get O (ci := 0) (T := TX0) (N := 20) in_X0 rfl 3 (by decide) q234 (fun _ h => h) dX0_becomes_30 (fun v0 => ?_)
    refine s_vR (fun r8 => ?_)
    refine s_dr (fun p9 hp10 => ?_)
    subst hp10
    refine s_dr (fun p11 hp12 => ?_)
    subst hp12
    refine x_callF O (enc2 := eI) (ci := 7) (av := [.ref p9]) (rest := []) 1 (fun v0 t0 h0 => mt_J2_add (xL X) (xG X) hfl hg p11 p9 _ t0 v0 h0) (lw_F q901 q721 q723 q135 q725) (zw_1 hzz) hf_J2_add ⟨Nat.le_of_ble_eq_true rfl, Nat.le_of_ble_eq_true rfl⟩ rfl rfl (Nat.le_of_ble_eq_true rfl) dX0_becomes_33 (fun v13 s14 => ?_)
    refine s_pop O rfl dX0_becomes_38 ?_
    refine s_aload_n O 0 rfl rfl dX0_becomes_39 ?_
    refine s_aload_n O 1 rfl rfl dX0_becomes_40 ?_
    refine x_put O (ci := 0) (T := TX0) (N := 20) (ty := (.object "QuotientRows$State")) in_X0 tyX0 tyX0_ok nmX0 rfl 3 (by decide) q234 (fun _ h => h) rfl (by decide +kernel) rfl rfl dX0_becomes_41 (fun s15 => ?_)
    exact s_return O hr rfl dX0_becomes_44
  refine s_aload_n O 0 rfl rfl dX0_becomes_0 ?_
  refine x_get O (ci := 0) (T := TX0) (N := 20) in_X0 rfl 6 (by decide) q237 (fun _ h => h) dX0_becomes_1 (fun v0 => ?_)
  refine s_vR (fun r1 => ?_)
  refine s_dr (fun p2 hp3 => ?_)
  subst hp3
  refine x_callF O (enc2 := eI) (ci := 7) (av := []) (rest := []) 0 (fun v0 t0 h0 => mt_J2_size (xL X) (xG X) hfl hg p2 _ t0 v0 h0) (lw_F q897 q695 q697 q135 q699) (zw_0 hzz) hf_J2_size ⟨Nat.le_of_ble_eq_true rfl, Nat.le_of_ble_eq_true rfl⟩ rfl rfl (Nat.le_of_ble_eq_true rfl) dX0_becomes_4 (fun v4 s5 => ?_)
  refine s_bipush O (x := 20) (by decide) dX0_becomes_9 ?_
  refine s_icmp_ne O (tgt := 25) dX0_becomes_11 (by decide) ?_ ?_
  · exact hj25 _
  · refine s_aload_n O 0 rfl rfl dX0_becomes_14 ?_
    refine x_get O (ci := 0) (T := TX0) (N := 20) in_X0 rfl 6 (by decide) q237 (fun _ h => h) dX0_becomes_15 (fun v0 => ?_)
    refine s_vR (fun r16 => ?_)
    refine s_iconst O (x := 0) (by decide) dX0_becomes_18 ?_
    refine s_dr (fun p17 hp18 => ?_)
    subst hp18
    refine x_callF O (enc2 := eR) (ci := 7) (av := [.int 0]) (rest := []) 1 (fun v0 t0 h0 => mt_J2_remove (xL X) (xG X) hfl hg p17 0 _ t0 v0 h0) (lw_F q899 q865 q867 q135 q869) (zw_4 hzz) hf_J2_remove ⟨Nat.le_of_ble_eq_true rfl, Nat.le_of_ble_eq_true rfl⟩ rfl rfl (Nat.le_of_ble_eq_true rfl) dX0_becomes_19 (fun r19 s20 => ?_)
    refine s_pop O (va_cat _) dX0_becomes_24 ?_
    exact hj25 _
theorem mt_X0_becomes (l : Launch) (G : XG) (hfl : l.stackTraces = false) (hg : G.2.2.2.2 = zAll G.1.1 G.1.2.2.2 G.2.2.2.1) (o : Nat) (x1 : Nat) (s t : XS) (v : Unit) (h : x0_becomes o x1 s = some (v, t)) : xMet l yX0_becomes (ws_ yX0_becomes cX0_becomes 2 none) 7 191 G (xI s) [.ref o, .ref x1] (eU v) (xI t) :=
  xMet_of (E := xI) (enc := eU) (by decide +kernel) (Nat.le_of_ble_eq_true rfl) (fun X hl hG O hr hm => by subst hl; subst hG; exact wk_X0_becomes O hfl hg hr hm o x1 s) h
theorem hd_X0_text : yX0_text.cls ≠ "java/lang/invoke/MethodHandle" ∧ yX0_text.cls ≠ "java/lang/invoke/VarHandle" ∧ (parseMethodDescriptor yX0_text.desc).map (fun d => d.parameters.length) = some 0 := by decide +kernel
theorem hv_X0_text : yX0_text.cls = RX0 ∧ yX0_text.cls ≠ "java/lang/invoke/MethodHandle" ∧ yX0_text.cls ≠ "java/lang/invoke/VarHandle" ∧ (parseMethodDescriptor yX0_text.desc).map (fun d => d.parameters.length) = some 0 := ⟨rfl, hd_X0_text⟩
theorem hu_X0_text : yX0_text.name ≠ "<init>" ∧ (parseMethodDescriptor yX0_text.desc).map (fun d => d.parameters.length) = some 0 := ⟨by decide +kernel, hd_X0_text.2.2⟩
set_option maxHeartbeats 4000000 in
set_option maxRecDepth 100000 in
theorem wk_X0_text {X : XC} (O : XOk X cX0_text RX0 10 258) (hfl : (xL X).stackTraces = false) (hg : (xG X).2.2.2.2 = zAll (xG X).1.1 (xG X).1.2.2.2 (xG X).2.2.2.1) (hr : (xMeth X).sig.returnType = (some .int)) (hm : (xC X).maxLocals = 3) (htab : (xC X).exceptionTable.toList = tableOf [(13, 50, 51, 154)]) (o : Nat) (s : XS) : Sim X xI (retC X eI xI) 0 [(0, .ref o)] [] s (x0_text o s) := by
  have hzz := O.hst
  rw [hg] at hzz
  unfold x0_text
  have hj51 : ∀ (k0_51 : Nat) (s26 : XS), Sim X (xI) (retC X eI xI) 51 [(0, .ref o)] [.ref k0_51] s26 (x0_text_j51 o k0_51 s26) := by
    intro k0_51 s26
    unfold x0_text_j51
    refine s_astore_n O (L' := [(2, .ref k0_51), (0, .ref o)]) hm (by decide) rfl rfl dX0_text_51 ?_
    refine s_aload_n O 1 rfl rfl dX0_text_52 ?_
    refine s_aload_n O 0 rfl rfl dX0_text_53 ?_
    refine x_get O (ci := 4) (T := TX4) (N := 8) in_X4 rfl 6 (by decide) q656 (fun _ h => h) dX0_text_54 (fun v0 => ?_)
    refine s_vI (fun u27 => ?_)
    refine x_put O (ci := 0) (T := TX0) (N := 20) (ty := .int) in_X0 tyX0 tyX0_ok nmX0 rfl 4 (by decide) q235 (fun _ h => h) rfl (by decide +kernel) rfl rfl dX0_text_57 (fun s28 => ?_)
    refine s_aload_n O 1 rfl rfl dX0_text_60 ?_
    refine s_aload_n O 0 rfl rfl dX0_text_61 ?_
    refine x_get O (ci := 4) (T := TX4) (N := 8) in_X4 rfl 7 (by decide) q658 (fun _ h => h) dX0_text_62 (fun v0 => ?_)
    refine s_vI (fun u29 => ?_)
    refine x_put O (ci := 0) (T := TX0) (N := 20) (ty := .int) in_X0 tyX0 tyX0_ok nmX0 rfl 5 (by decide) q236 (fun _ h => h) rfl (by decide +kernel) rfl rfl dX0_text_65 (fun s30 => ?_)
    refine s_aload_n O 1 rfl rfl dX0_text_68 ?_
    refine s_iconst O (x := 1) (by decide) dX0_text_69 ?_
    refine x_callV O (enc2 := eI) (ci := 0) (av := [.int 1]) (rest := []) 1 (fun v0 t0 h0 => mt_X0_refused (xL X) (xG X) hfl hg o 1 _ t0 v0 h0) (lw_V q296 q298 qs0 q131 q299) hv_X0_refused ⟨Nat.le_of_ble_eq_true rfl, Nat.le_of_ble_eq_true rfl⟩ rfl rfl (Nat.le_of_ble_eq_true rfl) dX0_text_70 (fun v31 s32 => ?_)
    exact s_ireturn O hr rfl dX0_text_73
  refine x_new O (ci := 3) (T := TX3) (N := 8) (fs := dfX3) in_X3 tyX3 tyX3_ok rfl 8 q325 q326 q137 rfl dfX3_ok dX0_text_0 (fun p1 s2 => ?_)
  refine s_dup O rfl dX0_text_3 ?_
  refine s_aload_n O 0 rfl rfl dX0_text_4 ?_
  refine s_aload_n O 0 rfl rfl dX0_text_5 ?_
  refine x_callV O (enc2 := eI) (ci := 0) (av := []) (rest := [.ref o, .ref p1, .ref p1]) 0 (fun v0 t0 h0 => mt_X0_takesTape (xL X) (xG X) hfl hg o _ t0 v0 h0) (lw_V q327 q329 qs3 q131 q330) hv_X0_takesTape ⟨Nat.le_of_ble_eq_true rfl, Nat.le_of_ble_eq_true rfl⟩ rfl rfl (Nat.le_of_ble_eq_true rfl) dX0_text_6 (fun v3 s4 => ?_)
  refine x_callI O (enc2 := eU) (av := [.ref o, .int v3]) (rest := [.ref p1]) 2 (fun v0 t0 h0 => mt_X3_init (xL X) (xG X) hfl hg p1 o v3 _ t0 v0 h0) q333 q137 q331 q332 rfl hd_X3_init ⟨Nat.le_of_ble_eq_true rfl, Nat.le_of_ble_eq_true rfl⟩ rfl (Nat.le_of_ble_eq_true rfl) dX0_text_9 (fun v5 s6 => ?_)
  refine s_astore_n O (L' := [(1, .ref p1), (0, .ref o)]) hm (by decide) rfl rfl dX0_text_12 ?_
  refine s_aload_n O 0 rfl rfl dX0_text_13 ?_
  refine x_callVT O (enc2 := eR) (ci := 3) (cj := 4) (av := []) (rest := []) 0 (fun v0 t0 h0 => mt_X3_read (xL X) (xG X) hfl hg p1 _ t0 v0 h0) (lw_V q362 q363 q364 q137 q365) hv_X3_read ⟨Nat.le_of_ble_eq_true rfl, Nat.le_of_ble_eq_true rfl⟩ rfl rfl (Nat.le_of_ble_eq_true rfl) dX0_text_14 (fun r7 s8 => ?_) (fun p24 s25 => ?_)
  · refine s_astore_nQ O (r := r7) (L' := [(1, .ref p1), (0, .ref o)]) rfl hm (by decide) (fun _ => rfl) dX0_text_17 ?_
    refine s_aload_n O 2 rfl rfl dX0_text_18 ?_
    refine s_iconst O (x := 0) (by decide) dX0_text_19 ?_
    refine x_put O (ci := 0) (T := TX0) (N := 20) (ty := .int) in_X0 tyX0 tyX0_ok nmX0 rfl 4 (by decide) q235 (fun _ h => h) rfl (by decide +kernel) rfl rfl dX0_text_20 (fun s9 => ?_)
    refine s_aload_n O 2 rfl rfl dX0_text_23 ?_
    refine s_iconst O (x := (-1)) (by decide) dX0_text_24 ?_
    refine x_put O (ci := 0) (T := TX0) (N := 20) (ty := .int) in_X0 tyX0 tyX0_ok nmX0 rfl 5 (by decide) q236 (fun _ h => h) rfl (by decide +kernel) rfl rfl dX0_text_25 (fun s10 => ?_)
    refine s_aload_n O 2 rfl rfl dX0_text_28 ?_
    refine s_aload_nQ O 0 rfl rfl dX0_text_29 ?_
    refine s_dr (fun p11 hp12 => ?_)
    subst hp12
    refine x_callV O (enc2 := eU) (ci := 0) (av := [.ref p11]) (rest := []) 1 (fun v0 t0 h0 => mt_X0_becomes (xL X) (xG X) hfl hg o p11 _ t0 v0 h0) (lw_V q892 q894 qs22 q131 q895) hv_X0_becomes ⟨Nat.le_of_ble_eq_true rfl, Nat.le_of_ble_eq_true rfl⟩ rfl rfl (Nat.le_of_ble_eq_true rfl) dX0_text_30 (fun v13 s14 => ?_)
    refine s_aload_n O 2 rfl rfl dX0_text_33 ?_
    refine s_null O dX0_text_34 ?_
    refine x_put O (ci := 0) (T := TX0) (N := 20) (ty := (.array .boolean)) in_X0 tyX0 tyX0_ok nmX0 rfl 12 (by decide) q243 (fun _ h => h) rfl (by decide +kernel) rfl rfl dX0_text_35 (fun s15 => ?_)
    refine s_aload_n O 2 rfl rfl dX0_text_38 ?_
    refine x_get O (ci := 0) (T := TX0) (N := 20) in_X0 rfl 3 (by decide) q234 (fun _ h => h) dX0_text_39 (fun v0 => ?_)
    refine s_vR (fun r16 => ?_)
    refine s_dr (fun p17 hp18 => ?_)
    subst hp18
    refine x_getN O (ci := 1) (T := TX1) (N := 6) in_X1 rfl 1 (by decide) (zf_q208 hzz) (fun _ h => h) dX0_text_42 (fun v0 => ?_)
    refine s_vR (fun r19 => ?_)
    refine s_dr (fun p20 hp21 => ?_)
    subst hp21
    refine x_callF O (enc2 := eI) (ci := 7) (av := []) (rest := []) 0 (fun v0 t0 h0 => mt_J2_size (xL X) (xG X) hfl hg p20 _ t0 v0 h0) (lw_F q897 q695 q697 q135 q699) (zw_0 hzz) hf_J2_size ⟨Nat.le_of_ble_eq_true rfl, Nat.le_of_ble_eq_true rfl⟩ rfl rfl (Nat.le_of_ble_eq_true rfl) dX0_text_45 (fun v22 s23 => ?_)
    exact s_ireturn O hr rfl dX0_text_50
  · refine sx_catch O (ci := 4) (r := (RX4, TX4, 8)) (name := "QuotientRows$Fault") (hpc := 51) htab ⟨13, 50, 51, 154⟩ [] rfl (by decide) (by decide) q324 rfl (zc_q610 hzz) rfl ?_
    refine Sim.sub (L' := [(0, .ref o)]) [1] rfl ?_
    exact hj51 p24 _
theorem mt_X0_text (l : Launch) (G : XG) (hfl : l.stackTraces = false) (hg : G.2.2.2.2 = zAll G.1.1 G.1.2.2.2 G.2.2.2.1) (o : Nat) (s t : XS) (v : Int32) (h : x0_text o s = some (v, t)) : xMet l yX0_text (wsW_ yX0_text cX0_text 3 (some .int) [(13, 50, 51, 154)]) 10 258 G (xI s) [.ref o] (eI v) (xI t) :=
  xMet_ofH (E := xI) (enc := eI) (by decide +kernel) (Nat.le_of_ble_eq_true rfl) (fun X hl hG O hr hm htab => by subst hl; subst hG; exact wk_X0_text O hfl hg hr hm htab o s) h
theorem hd_X0_fault : yX0_fault.cls ≠ "java/lang/invoke/MethodHandle" ∧ yX0_fault.cls ≠ "java/lang/invoke/VarHandle" ∧ (parseMethodDescriptor yX0_fault.desc).map (fun d => d.parameters.length) = some 1 := by decide +kernel
theorem hv_X0_fault : yX0_fault.cls = RX0 ∧ yX0_fault.cls ≠ "java/lang/invoke/MethodHandle" ∧ yX0_fault.cls ≠ "java/lang/invoke/VarHandle" ∧ (parseMethodDescriptor yX0_fault.desc).map (fun d => d.parameters.length) = some 1 := ⟨rfl, hd_X0_fault⟩
theorem hu_X0_fault : yX0_fault.name ≠ "<init>" ∧ (parseMethodDescriptor yX0_fault.desc).map (fun d => d.parameters.length) = some 1 := ⟨by decide +kernel, hd_X0_fault.2.2⟩
set_option maxHeartbeats 4000000 in
set_option maxRecDepth 100000 in
theorem wk_X0_fault {X : XC} (O : XOk X cX0_fault RX0 0 0) (hfl : (xL X).stackTraces = false) (hg : (xG X).2.2.2.2 = zAll (xG X).1.1 (xG X).1.2.2.2 (xG X).2.2.2.1) (hr : (xMeth X).sig.returnType = (some .int)) (hm : (xC X).maxLocals = 2) (o : Nat) (x1 : Int32) (s : XS) : Sim X xI (retC X eI xI) 0 [(0, .ref o), (1, .int x1)] [] s (x0_fault o x1 s) := by
  have hzz := O.hst
  rw [hg] at hzz
  unfold x0_fault
  refine s_iload_n O 1 rfl rfl dX0_fault_0 ?_
  refine s_if_ne O (tgt := 11) dX0_fault_1 (by decide) ?_ ?_
  · refine s_iload_n O 1 rfl rfl dX0_fault_11 ?_
    refine s_iconst O (x := 1) (by decide) dX0_fault_12 ?_
    refine s_icmp_ne O (tgt := 23) dX0_fault_13 (by decide) ?_ ?_
    · refine s_iconst O (x := (-1)) (by decide) dX0_fault_23 ?_
      exact s_ireturn O hr rfl dX0_fault_24
    · refine s_aload_n O 0 rfl rfl dX0_fault_16 ?_
      refine x_get O (ci := 0) (T := TX0) (N := 20) in_X0 rfl 5 (by decide) q236 (fun _ h => h) dX0_fault_17 (fun v0 => ?_)
      refine s_vI (fun u1 => ?_)
      refine s_goto O (tgt := 24) dX0_fault_20 (by decide) ?_
      exact s_ireturn O hr rfl dX0_fault_24
  · refine s_aload_n O 0 rfl rfl dX0_fault_4 ?_
    refine x_get O (ci := 0) (T := TX0) (N := 20) in_X0 rfl 4 (by decide) q235 (fun _ h => h) dX0_fault_5 (fun v0 => ?_)
    refine s_vI (fun u2 => ?_)
    refine s_goto O (tgt := 24) dX0_fault_8 (by decide) ?_
    exact s_ireturn O hr rfl dX0_fault_24
theorem mt_X0_fault (l : Launch) (G : XG) (hfl : l.stackTraces = false) (hg : G.2.2.2.2 = zAll G.1.1 G.1.2.2.2 G.2.2.2.1) (o : Nat) (x1 : Int32) (s t : XS) (v : Int32) (h : x0_fault o x1 s = some (v, t)) : xMet l yX0_fault (ws_ yX0_fault cX0_fault 2 (some .int)) 0 0 G (xI s) [.ref o, .int x1] (eI v) (xI t) :=
  xMet_of (E := xI) (enc := eI) (by decide +kernel) (Nat.le_of_ble_eq_true rfl) (fun X hl hG O hr hm => by subst hl; subst hG; exact wk_X0_fault O hfl hg hr hm o x1 s) h
theorem hd_X0_flag : yX0_flag.cls ≠ "java/lang/invoke/MethodHandle" ∧ yX0_flag.cls ≠ "java/lang/invoke/VarHandle" ∧ (parseMethodDescriptor yX0_flag.desc).map (fun d => d.parameters.length) = some 1 := by decide +kernel
set_option maxHeartbeats 4000000 in
set_option maxRecDepth 100000 in
theorem wk_X0_flag {X : XC} {w0 : XS} (O : XOk X cX0_flag RX0 0 0) (hr : (xMeth X).sig.returnType = some .int) (hm : (xC X).maxLocals = 1) (x0 : Int32) (s : Unit) : Sim X (fun _ : Unit => w0) (retC X eI (fun _ : Unit => w0)) 0 [(0, .int x0)] [] s (x0_flag x0 s) := by
  unfold x0_flag
  refine s_iload_n O 0 rfl rfl dX0_flag_0 ?_
  refine s_if_eq O (tgt := 8) dX0_flag_1 (by decide) ?_ ?_
  · refine s_iconst O (x := 0) (by decide) dX0_flag_8 ?_
    exact s_ireturn O hr rfl dX0_flag_9
  · refine s_iconst O (x := 1) (by decide) dX0_flag_4 ?_
    refine s_goto O (tgt := 9) dX0_flag_5 (by decide) ?_
    exact s_ireturn O hr rfl dX0_flag_9
theorem mt_X0_flag (l : Launch) (G : XG) (w0 : XS) (x0 : Int32) (v : Int32) (h : x0_flag x0 () = some (v, ())) : xMet l yX0_flag (ws_ yX0_flag cX0_flag 1 (some .int)) 0 0 G w0 [.int x0] (eI v) w0 :=
  xMet_of (E := fun _ : Unit => w0) (enc := eI) (t := ()) (by decide +kernel) (Nat.le_of_ble_eq_true rfl) (fun X hl hG O hr hm => wk_X0_flag O hr hm x0 ()) h
theorem hd_X0_held : yX0_held.cls ≠ "java/lang/invoke/MethodHandle" ∧ yX0_held.cls ≠ "java/lang/invoke/VarHandle" ∧ (parseMethodDescriptor yX0_held.desc).map (fun d => d.parameters.length) = some 1 := by decide +kernel
theorem hv_X0_held : yX0_held.cls = RX0 ∧ yX0_held.cls ≠ "java/lang/invoke/MethodHandle" ∧ yX0_held.cls ≠ "java/lang/invoke/VarHandle" ∧ (parseMethodDescriptor yX0_held.desc).map (fun d => d.parameters.length) = some 1 := ⟨rfl, hd_X0_held⟩
theorem hu_X0_held : yX0_held.name ≠ "<init>" ∧ (parseMethodDescriptor yX0_held.desc).map (fun d => d.parameters.length) = some 1 := ⟨by decide +kernel, hd_X0_held.2.2⟩
set_option maxHeartbeats 4000000 in
set_option maxRecDepth 100000 in
theorem wk_X0_held {X : XC} (O : XOk X cX0_held RX0 1 20) (hfl : (xL X).stackTraces = false) (hg : (xG X).2.2.2.2 = zAll (xG X).1.1 (xG X).1.2.2.2 (xG X).2.2.2.1) (hr : (xMeth X).sig.returnType = (some .int)) (hm : (xC X).maxLocals = 6) (x0 : Nat) (s : XS) : Sim X xI (retC X eI xI) 0 [(0, .ref x0)] [] s (x0_held x0 s) := by
  have hzz := O.hst
  rw [hg] at hzz
  unfold x0_held
  refine s_iconst O (x := 0) (by decide) dX0_held_0 ?_
  refine s_istore_n O (L' := [(1, .int 0), (0, .ref x0)]) hm (by decide) rfl rfl dX0_held_1 ?_
  refine s_aload_n O 1 rfl rfl dX0_held_2 ?_
  refine s_astore_n O (L' := [(2, .ref x0), (1, .int 0), (0, .ref x0)]) hm (by decide) rfl rfl dX0_held_3 ?_
  refine s_aload_n O 0 rfl rfl dX0_held_4 ?_
  refine x_alen O dX0_held_5 (fun u1 => ?_)
  refine s_istore_n O (L' := [(3, .int u1), (2, .ref x0), (1, .int 0), (0, .ref x0)]) hm (by decide) rfl rfl dX0_held_6 ?_
  refine s_iconst O (x := 0) (by decide) dX0_held_7 ?_
  refine s_istore O (L' := [(4, .int 0), (3, .int u1), (2, .ref x0), (1, .int 0), (0, .ref x0)]) hm (by decide) rfl dX0_held_8 ?_
  refine Sim.sub (L' := [(1, .int 0), (2, .ref x0), (3, .int u1), (4, .int 0)]) [3, 2, 1, 0] rfl ?_
  refine s_while (A := Int32 × Int32) (B := Int32) (La := fun a10 => [(1, .int a10.1), (2, .ref x0), (3, .int u1), (4, .int a10.2)]) (We := fun b10 s7 => xWX X 36 [(1, .int b10)] [] ((xI) s7)) rfl rfl ?_ ?_
  · intro Cl hn he a10 s2
    unfold x0_held_s10
    refine s_iload O 3 rfl dX0_held_10 ?_
    refine s_iload_n O 2 rfl rfl dX0_held_12 ?_
    refine s_icmp_ge O (tgt := 36) dX0_held_13 (by decide) ?_ ?_
    · refine Sim.sub (L' := [(1, .int a10.1)]) [0] rfl ?_
      exact Sim.ret (he _ _)
    · refine s_aload_n O 1 rfl rfl dX0_held_16 ?_
      refine s_iload O 3 rfl dX0_held_17 ?_
      refine x_zald O dX0_held_19 (fun u3 => ?_)
      refine s_istore O (L' := [(5, .int u3), (1, .int a10.1), (2, .ref x0), (3, .int u1), (4, .int a10.2)]) hm (by decide) rfl dX0_held_20 ?_
      refine s_iload_n O 1 rfl rfl dX0_held_22 ?_
      refine s_iload O 0 rfl dX0_held_23 ?_
      refine s_callP O (enc2 := eI) (av := [.int u3]) (rest := [.int a10.1]) 1 (fun v0 h0 => mt_X0_flag (xL X) (xG X) _ u3 v0 h0) (lw_S q913 q914 q131 q915) hd_X0_flag ⟨Nat.le_of_ble_eq_true rfl, Nat.le_of_ble_eq_true rfl⟩ rfl (Nat.le_of_ble_eq_true rfl) dX0_held_25 (fun v4 => ?_)
      refine s_iadd O dX0_held_28 ?_
      refine s_nmi fun u6 => ?_
      refine s_istore_n O (L' := [(1, .int u6), (5, .int u3), (2, .ref x0), (3, .int u1), (4, .int a10.2)]) hm (by decide) rfl rfl dX0_held_29 ?_
      refine s_iinc O (y := (a10.2 + 1)) (L' := [(4, .int (a10.2 + 1)), (1, .int u6), (5, .int u3), (2, .ref x0), (3, .int u1)]) 4 rfl hm (by decide) rfl rfl dX0_held_30 ?_
      refine s_goto O (tgt := 10) dX0_held_33 (by decide) ?_
      refine Sim.sub (L' := [(1, .int u6), (2, .ref x0), (3, .int u1), (4, .int (a10.2 + 1))]) [1, 3, 4, 0] rfl ?_
      exact Sim.ret (hn _ _)
  · intro b10 s7
    show Sim X (xI) (retC X eI xI) 36 [(1, .int b10)] [] s7 _
    refine s_iload_n O 0 rfl rfl dX0_held_36 ?_
    exact s_ireturn O hr rfl dX0_held_37
theorem mt_X0_held (l : Launch) (G : XG) (hfl : l.stackTraces = false) (hg : G.2.2.2.2 = zAll G.1.1 G.1.2.2.2 G.2.2.2.1) (x0 : Nat) (s t : XS) (v : Int32) (h : x0_held x0 s = some (v, t)) : xMet l yX0_held (ws_ yX0_held cX0_held 6 (some .int)) 1 20 G (xI s) [.ref x0] (eI v) (xI t) :=
  xMet_of (E := xI) (enc := eI) (by decide +kernel) (Nat.le_of_ble_eq_true rfl) (fun X hl hG O hr hm => by subst hl; subst hG; exact wk_X0_held O hfl hg hr hm x0 s) h
theorem hd_X0_has : yX0_has.cls ≠ "java/lang/invoke/MethodHandle" ∧ yX0_has.cls ≠ "java/lang/invoke/VarHandle" ∧ (parseMethodDescriptor yX0_has.desc).map (fun d => d.parameters.length) = some 1 := by decide +kernel
theorem hv_X0_has : yX0_has.cls = RX0 ∧ yX0_has.cls ≠ "java/lang/invoke/MethodHandle" ∧ yX0_has.cls ≠ "java/lang/invoke/VarHandle" ∧ (parseMethodDescriptor yX0_has.desc).map (fun d => d.parameters.length) = some 1 := ⟨rfl, hd_X0_has⟩
theorem hu_X0_has : yX0_has.name ≠ "<init>" ∧ (parseMethodDescriptor yX0_has.desc).map (fun d => d.parameters.length) = some 1 := ⟨by decide +kernel, hd_X0_has.2.2⟩
set_option maxHeartbeats 4000000 in
set_option maxRecDepth 100000 in
theorem wk_X0_has {X : XC} (O : XOk X cX0_has RX0 2 45) (hfl : (xL X).stackTraces = false) (hg : (xG X).2.2.2.2 = zAll (xG X).1.1 (xG X).1.2.2.2 (xG X).2.2.2.1) (hr : (xMeth X).sig.returnType = (some .int)) (hm : (xC X).maxLocals = 2) (o : Nat) (x1 : Int32) (s : XS) : Sim X xI (retC X eI xI) 0 [(0, .ref o), (1, .int x1)] [] s (x0_has o x1 s) := by
  have hzz := O.hst
  rw [hg] at hzz
  unfold x0_has
  refine s_iload_n O 1 rfl rfl dX0_has_0 ?_
  refine Sim.ite (fun h1_0 => ?_) (fun h1_0 => ?_)
  · refine s_tableIn O (off := 39) (tgt := 40) dX0_has_1 (by rw [h1_0]; decide) (by rw [h1_0]; decide) (by rw [h1_0]; rfl) (by decide) ?_
    refine s_aload_n O 0 rfl rfl dX0_has_40 ?_
    refine x_get O (ci := 0) (T := TX0) (N := 20) in_X0 rfl 3 (by decide) q234 (fun _ h => h) dX0_has_41 (fun v0 => ?_)
    refine s_vR (fun r1 => ?_)
    refine s_dr (fun p2 hp3 => ?_)
    subst hp3
    refine x_getN O (ci := 1) (T := TX1) (N := 6) in_X1 rfl 0 (by decide) (zf_q206 hzz) (fun _ h => h) dX0_has_44 (fun v0 => ?_)
    refine s_vI (fun u4 => ?_)
    exact s_ireturn O hr rfl dX0_has_47
  · refine Sim.ite (fun h1_1 => ?_) (fun h1_1 => ?_)
    · refine s_tableIn O (off := 47) (tgt := 48) dX0_has_1 (by rw [h1_1]; decide) (by rw [h1_1]; decide) (by rw [h1_1]; rfl) (by decide) ?_
      refine s_aload_n O 0 rfl rfl dX0_has_48 ?_
      refine x_get O (ci := 0) (T := TX0) (N := 20) in_X0 rfl 3 (by decide) q234 (fun _ h => h) dX0_has_49 (fun v0 => ?_)
      refine s_vR (fun r5 => ?_)
      refine s_dr (fun p6 hp7 => ?_)
      subst hp7
      refine x_getN O (ci := 1) (T := TX1) (N := 6) in_X1 rfl 1 (by decide) (zf_q208 hzz) (fun _ h => h) dX0_has_52 (fun v0 => ?_)
      refine s_vR (fun r8 => ?_)
      refine s_dr (fun p9 hp10 => ?_)
      subst hp10
      refine x_callF O (enc2 := eI) (ci := 7) (av := []) (rest := []) 0 (fun v0 t0 h0 => mt_J2_size (xL X) (xG X) hfl hg p9 _ t0 v0 h0) (lw_F q897 q695 q697 q135 q699) (zw_0 hzz) hf_J2_size ⟨Nat.le_of_ble_eq_true rfl, Nat.le_of_ble_eq_true rfl⟩ rfl rfl (Nat.le_of_ble_eq_true rfl) dX0_has_55 (fun v11 s12 => ?_)
      exact s_ireturn O hr rfl dX0_has_60
    · refine Sim.ite (fun h1_2 => ?_) (fun h1_2 => ?_)
      · refine s_tableIn O (off := 60) (tgt := 61) dX0_has_1 (by rw [h1_2]; decide) (by rw [h1_2]; decide) (by rw [h1_2]; rfl) (by decide) ?_
        refine s_aload_n O 0 rfl rfl dX0_has_61 ?_
        refine x_get O (ci := 0) (T := TX0) (N := 20) in_X0 rfl 3 (by decide) q234 (fun _ h => h) dX0_has_62 (fun v0 => ?_)
        refine s_vR (fun r13 => ?_)
        refine s_dr (fun p14 hp15 => ?_)
        subst hp15
        refine x_getN O (ci := 1) (T := TX1) (N := 6) in_X1 rfl 2 (by decide) (zf_q210 hzz) (fun _ h => h) dX0_has_65 (fun v0 => ?_)
        refine s_vR (fun r16 => ?_)
        refine s_dr (fun p17 hp18 => ?_)
        subst hp18
        refine x_alen O dX0_has_68 (fun u19 => ?_)
        exact s_ireturn O hr rfl dX0_has_69
      · refine Sim.ite (fun h1_3 => ?_) (fun h1_3 => ?_)
        · refine s_tableIn O (off := 69) (tgt := 70) dX0_has_1 (by rw [h1_3]; decide) (by rw [h1_3]; decide) (by rw [h1_3]; rfl) (by decide) ?_
          refine s_aload_n O 0 rfl rfl dX0_has_70 ?_
          refine x_get O (ci := 0) (T := TX0) (N := 20) in_X0 rfl 12 (by decide) q243 (fun _ h => h) dX0_has_71 (fun v0 => ?_)
          refine s_vR (fun r20 => ?_)
          refine s_ifnonnull O (tgt := 81) dX0_has_74 (by decide) (fun p21 hr0 => ?_) (fun hr0 => ?_)
          · subst hr0
            refine s_aload_n O 0 rfl rfl dX0_has_81 ?_
            refine x_get O (ci := 0) (T := TX0) (N := 20) in_X0 rfl 12 (by decide) q243 (fun _ h => h) dX0_has_82 (fun v0 => ?_)
            refine s_vR (fun r22 => ?_)
            refine s_dr (fun p23 hp24 => ?_)
            subst hp24
            refine x_callS O (enc2 := eI) (av := [.ref p23]) (rest := []) 1 (fun v0 t0 h0 => mt_X0_held (xL X) (xG X) hfl hg p23 _ t0 v0 h0) (lw_S q910 q911 q131 q912) hd_X0_held ⟨Nat.le_of_ble_eq_true rfl, Nat.le_of_ble_eq_true rfl⟩ rfl (Nat.le_of_ble_eq_true rfl) dX0_has_85 (fun v25 s26 => ?_)
            exact s_ireturn O hr rfl dX0_has_88
          · subst hr0
            refine s_iconst O (x := 0) (by decide) dX0_has_77 ?_
            refine s_goto O (tgt := 88) dX0_has_78 (by decide) ?_
            exact s_ireturn O hr rfl dX0_has_88
        · refine Sim.ite (fun h1_4 => ?_) (fun h1_4 => ?_)
          · refine s_tableIn O (off := 88) (tgt := 89) dX0_has_1 (by rw [h1_4]; decide) (by rw [h1_4]; decide) (by rw [h1_4]; rfl) (by decide) ?_
            refine s_aload_n O 0 rfl rfl dX0_has_89 ?_
            refine x_get O (ci := 0) (T := TX0) (N := 20) in_X0 rfl 12 (by decide) q243 (fun _ h => h) dX0_has_90 (fun v0 => ?_)
            refine s_vR (fun r27 => ?_)
            refine s_ifnonnull O (tgt := 100) dX0_has_93 (by decide) (fun p28 hr0 => ?_) (fun hr0 => ?_)
            · subst hr0
              refine s_aload_n O 0 rfl rfl dX0_has_100 ?_
              refine x_get O (ci := 0) (T := TX0) (N := 20) in_X0 rfl 13 (by decide) q244 (fun _ h => h) dX0_has_101 (fun v0 => ?_)
              refine s_vI (fun u29 => ?_)
              exact s_ireturn O hr rfl dX0_has_104
            · subst hr0
              refine s_iconst O (x := (-1)) (by decide) dX0_has_96 ?_
              refine s_goto O (tgt := 104) dX0_has_97 (by decide) ?_
              exact s_ireturn O hr rfl dX0_has_104
          · refine Sim.ite (fun h1_5 => ?_) (fun h1_5 => ?_)
            · refine s_tableIn O (off := 104) (tgt := 105) dX0_has_1 (by rw [h1_5]; decide) (by rw [h1_5]; decide) (by rw [h1_5]; rfl) (by decide) ?_
              refine s_aload_n O 0 rfl rfl dX0_has_105 ?_
              refine x_get O (ci := 0) (T := TX0) (N := 20) in_X0 rfl 6 (by decide) q237 (fun _ h => h) dX0_has_106 (fun v0 => ?_)
              refine s_vR (fun r30 => ?_)
              refine s_dr (fun p31 hp32 => ?_)
              subst hp32
              refine x_callF O (enc2 := eI) (ci := 7) (av := []) (rest := []) 0 (fun v0 t0 h0 => mt_J2_size (xL X) (xG X) hfl hg p31 _ t0 v0 h0) (lw_F q897 q695 q697 q135 q699) (zw_0 hzz) hf_J2_size ⟨Nat.le_of_ble_eq_true rfl, Nat.le_of_ble_eq_true rfl⟩ rfl rfl (Nat.le_of_ble_eq_true rfl) dX0_has_109 (fun v33 s34 => ?_)
              exact s_ireturn O hr rfl dX0_has_114
            · refine s_tableOut O (tgt := 115) dX0_has_1 (tsw_out 5 (by decide) (fun k hk => by match k, hk with | 0, _ => exact h1_0 | 1, _ => exact h1_1 | 2, _ => exact h1_2 | 3, _ => exact h1_3 | 4, _ => exact h1_4 | 5, _ => exact h1_5 | k + 6, hk => exact absurd hk (by omega))) (by decide) ?_
              refine s_iconst O (x := (-1)) (by decide) dX0_has_115 ?_
              exact s_ireturn O hr rfl dX0_has_116
theorem mt_X0_has (l : Launch) (G : XG) (hfl : l.stackTraces = false) (hg : G.2.2.2.2 = zAll G.1.1 G.1.2.2.2 G.2.2.2.1) (o : Nat) (x1 : Int32) (s t : XS) (v : Int32) (h : x0_has o x1 s = some (v, t)) : xMet l yX0_has (ws_ yX0_has cX0_has 2 (some .int)) 2 45 G (xI s) [.ref o, .int x1] (eI v) (xI t) :=
  xMet_of (E := xI) (enc := eI) (by decide +kernel) (Nat.le_of_ble_eq_true rfl) (fun X hl hG O hr hm => by subst hl; subst hG; exact wk_X0_has O hfl hg hr hm o x1 s) h
theorem hd_X0_isDegree : yX0_isDegree.cls ≠ "java/lang/invoke/MethodHandle" ∧ yX0_isDegree.cls ≠ "java/lang/invoke/VarHandle" ∧ (parseMethodDescriptor yX0_isDegree.desc).map (fun d => d.parameters.length) = some 1 := by decide +kernel
set_option maxHeartbeats 4000000 in
set_option maxRecDepth 100000 in
theorem wk_X0_isDegree {X : XC} {w0 : XS} (O : XOk X cX0_isDegree RX0 1 25) (hr : (xMeth X).sig.returnType = some .boolean) (hm : (xC X).maxLocals = 1) (x0 : Int32) (s : Unit) : Sim X (fun _ : Unit => w0) (retC X eI (fun _ : Unit => w0)) 0 [(0, .int x0)] [] s (x0_isDegree x0 s) := by
  unfold x0_isDegree
  refine s_iload_n O 0 rfl rfl dX0_isDegree_0 ?_
  refine s_i2l O dX0_isDegree_1 ?_
  refine s_lconst O (x := 0) (by decide) dX0_isDegree_2 ?_
  refine s_ldc2 O (x := 40) q923 dX0_isDegree_3 ?_
  refine s_callP O (enc2 := eI) (av := [.long x0.toInt64, .long 0, .long 40]) (rest := []) 3 (fun v0 h0 => mt_X0_isIn (xL X) (xG X) _ x0.toInt64 0 40 v0 h0) (lw_S q317 q318 q131 q319) hd_X0_isIn ⟨Nat.le_of_ble_eq_true rfl, Nat.le_of_ble_eq_true rfl⟩ rfl (Nat.le_of_ble_eq_true rfl) dX0_isDegree_6 (fun v1 => ?_)
  exact s_zretB O hr rfl dX0_isDegree_9
theorem mt_X0_isDegree (l : Launch) (G : XG) (w0 : XS) (x0 : Int32) (v : Int32) (h : x0_isDegree x0 () = some (v, ())) : xMet l yX0_isDegree (ws_ yX0_isDegree cX0_isDegree 1 (some .boolean)) 1 25 G w0 [.int x0] (eI v) w0 :=
  xMet_of (E := fun _ : Unit => w0) (enc := eI) (t := ()) (by decide +kernel) (Nat.le_of_ble_eq_true rfl) (fun X hl hG O hr hm => wk_X0_isDegree O hr hm x0 ()) h
theorem hd_X0_manyOf : yX0_manyOf.cls ≠ "java/lang/invoke/MethodHandle" ∧ yX0_manyOf.cls ≠ "java/lang/invoke/VarHandle" ∧ (parseMethodDescriptor yX0_manyOf.desc).map (fun d => d.parameters.length) = some 2 := by decide +kernel
theorem hv_X0_manyOf : yX0_manyOf.cls = RX0 ∧ yX0_manyOf.cls ≠ "java/lang/invoke/MethodHandle" ∧ yX0_manyOf.cls ≠ "java/lang/invoke/VarHandle" ∧ (parseMethodDescriptor yX0_manyOf.desc).map (fun d => d.parameters.length) = some 2 := ⟨rfl, hd_X0_manyOf⟩
theorem hu_X0_manyOf : yX0_manyOf.name ≠ "<init>" ∧ (parseMethodDescriptor yX0_manyOf.desc).map (fun d => d.parameters.length) = some 2 := ⟨by decide +kernel, hd_X0_manyOf.2.2⟩
set_option maxHeartbeats 4000000 in
set_option maxRecDepth 100000 in
theorem wk_X0_manyOf {X : XC} (O : XOk X cX0_manyOf RX0 1 20) (hfl : (xL X).stackTraces = false) (hg : (xG X).2.2.2.2 = zAll (xG X).1.1 (xG X).1.2.2.2 (xG X).2.2.2.1) (hr : (xMeth X).sig.returnType = (some .int)) (hm : (xC X).maxLocals = 2) (x0 : Int32) (x1 : Int32) (s : XS) : Sim X xI (retC X eI xI) 0 [(0, .int x0), (1, .int x1)] [] s (x0_manyOf x0 x1 s) := by
  have hzz := O.hst
  rw [hg] at hzz
  unfold x0_manyOf
  refine s_iload_n O 0 rfl rfl dX0_manyOf_0 ?_
  refine s_if_ne O (tgt := 19) dX0_manyOf_1 (by decide) ?_ ?_
  · refine x_getst O (j := 0) (zs_0 hzz) q931 (fun _ h => h) dX0_manyOf_19 ?_
    refine s_nmQ (fun r1 => ?_)
    refine s_iload_n O 0 rfl rfl dX0_manyOf_22 ?_
    refine s_iconst O (x := 1) (by decide) dX0_manyOf_23 ?_
    refine s_isub O dX0_manyOf_24 ?_
    refine s_iload_n O 1 rfl rfl dX0_manyOf_25 ?_
    refine s_iadd O dX0_manyOf_26 ?_
    refine s_dr (fun p2 hp3 => ?_)
    subst hp3
    refine x_aald O (t := 6) rfl rfl dX0_manyOf_27 (fun r4 => ?_)
    refine s_iload_n O 0 rfl rfl dX0_manyOf_28 ?_
    refine s_iconst O (x := 1) (by decide) dX0_manyOf_29 ?_
    refine s_isub O dX0_manyOf_30 ?_
    refine s_dr (fun p5 hp6 => ?_)
    subst hp6
    refine x_iald O dX0_manyOf_31 (fun u7 => ?_)
    exact s_ireturn O hr rfl dX0_manyOf_32
  · refine s_iload_n O 1 rfl rfl dX0_manyOf_4 ?_
    refine s_if_ne O (tgt := 12) dX0_manyOf_5 (by decide) ?_ ?_
    · refine s_iconst O (x := 0) (by decide) dX0_manyOf_12 ?_
      refine s_callP O (enc2 := eI) (av := [.int 0]) (rest := []) 1 (fun v0 h0 => mt_X0_flag (xL X) (xG X) _ 0 v0 h0) (lw_S q913 q914 q131 q915) hd_X0_flag ⟨Nat.le_of_ble_eq_true rfl, Nat.le_of_ble_eq_true rfl⟩ rfl (Nat.le_of_ble_eq_true rfl) dX0_manyOf_13 (fun v8 => ?_)
      refine s_goto O (tgt := 32) dX0_manyOf_16 (by decide) ?_
      exact s_ireturn O hr rfl dX0_manyOf_32
    · refine s_iconst O (x := 1) (by decide) dX0_manyOf_8 ?_
      refine s_goto O (tgt := 13) dX0_manyOf_9 (by decide) ?_
      refine s_callP O (enc2 := eI) (av := [.int 1]) (rest := []) 1 (fun v0 h0 => mt_X0_flag (xL X) (xG X) _ 1 v0 h0) (lw_S q913 q914 q131 q915) hd_X0_flag ⟨Nat.le_of_ble_eq_true rfl, Nat.le_of_ble_eq_true rfl⟩ rfl (Nat.le_of_ble_eq_true rfl) dX0_manyOf_13 (fun v10 => ?_)
      refine s_goto O (tgt := 32) dX0_manyOf_16 (by decide) ?_
      exact s_ireturn O hr rfl dX0_manyOf_32
theorem mt_X0_manyOf (l : Launch) (G : XG) (hfl : l.stackTraces = false) (hg : G.2.2.2.2 = zAll G.1.1 G.1.2.2.2 G.2.2.2.1) (x0 : Int32) (x1 : Int32) (s t : XS) (v : Int32) (h : x0_manyOf x0 x1 s = some (v, t)) : xMet l yX0_manyOf (ws_ yX0_manyOf cX0_manyOf 2 (some .int)) 1 20 G (xI s) [.int x0, .int x1] (eI v) (xI t) :=
  xMet_of (E := xI) (enc := eI) (by decide +kernel) (Nat.le_of_ble_eq_true rfl) (fun X hl hG O hr hm => by subst hl; subst hG; exact wk_X0_manyOf O hfl hg hr hm x0 x1 s) h
theorem hd_X0_manyHere : yX0_manyHere.cls ≠ "java/lang/invoke/MethodHandle" ∧ yX0_manyHere.cls ≠ "java/lang/invoke/VarHandle" ∧ (parseMethodDescriptor yX0_manyHere.desc).map (fun d => d.parameters.length) = some 1 := by decide +kernel
theorem hv_X0_manyHere : yX0_manyHere.cls = RX0 ∧ yX0_manyHere.cls ≠ "java/lang/invoke/MethodHandle" ∧ yX0_manyHere.cls ≠ "java/lang/invoke/VarHandle" ∧ (parseMethodDescriptor yX0_manyHere.desc).map (fun d => d.parameters.length) = some 1 := ⟨rfl, hd_X0_manyHere⟩
theorem hu_X0_manyHere : yX0_manyHere.name ≠ "<init>" ∧ (parseMethodDescriptor yX0_manyHere.desc).map (fun d => d.parameters.length) = some 1 := ⟨by decide +kernel, hd_X0_manyHere.2.2⟩
set_option maxHeartbeats 4000000 in
set_option maxRecDepth 100000 in
theorem wk_X0_manyHere {X : XC} (O : XOk X cX0_manyHere RX0 2 41) (hfl : (xL X).stackTraces = false) (hg : (xG X).2.2.2.2 = zAll (xG X).1.1 (xG X).1.2.2.2 (xG X).2.2.2.1) (hr : (xMeth X).sig.returnType = (some .int)) (hm : (xC X).maxLocals = 2) (o : Nat) (x1 : Int32) (s : XS) : Sim X xI (retC X eI xI) 0 [(0, .ref o), (1, .int x1)] [] s (x0_manyHere o x1 s) := by
  have hzz := O.hst
  rw [hg] at hzz
  unfold x0_manyHere
  refine s_aload_n O 0 rfl rfl dX0_manyHere_0 ?_
  refine x_get O (ci := 0) (T := TX0) (N := 20) in_X0 rfl 3 (by decide) q234 (fun _ h => h) dX0_manyHere_1 (fun v0 => ?_)
  refine s_vR (fun r1 => ?_)
  refine s_dr (fun p2 hp3 => ?_)
  subst hp3
  refine x_getN O (ci := 1) (T := TX1) (N := 6) in_X1 rfl 0 (by decide) (zf_q206 hzz) (fun _ h => h) dX0_manyHere_4 (fun v0 => ?_)
  refine s_vI (fun u4 => ?_)
  refine s_iload_n O 1 rfl rfl dX0_manyHere_7 ?_
  refine x_callS O (enc2 := eI) (av := [.int u4, .int x1]) (rest := []) 2 (fun v0 t0 h0 => mt_X0_manyOf (xL X) (xG X) hfl hg u4 x1 _ t0 v0 h0) (lw_S q928 q929 q131 q930) hd_X0_manyOf ⟨Nat.le_of_ble_eq_true rfl, Nat.le_of_ble_eq_true rfl⟩ rfl (Nat.le_of_ble_eq_true rfl) dX0_manyHere_8 (fun v5 s6 => ?_)
  exact s_ireturn O hr rfl dX0_manyHere_11
theorem mt_X0_manyHere (l : Launch) (G : XG) (hfl : l.stackTraces = false) (hg : G.2.2.2.2 = zAll G.1.1 G.1.2.2.2 G.2.2.2.1) (o : Nat) (x1 : Int32) (s t : XS) (v : Int32) (h : x0_manyHere o x1 s = some (v, t)) : xMet l yX0_manyHere (ws_ yX0_manyHere cX0_manyHere 2 (some .int)) 2 41 G (xI s) [.ref o, .int x1] (eI v) (xI t) :=
  xMet_of (E := xI) (enc := eI) (by decide +kernel) (Nat.le_of_ble_eq_true rfl) (fun X hl hG O hr hm => by subst hl; subst hG; exact wk_X0_manyHere O hfl hg hr hm o x1 s) h
theorem hd_X0_many : yX0_many.cls ≠ "java/lang/invoke/MethodHandle" ∧ yX0_many.cls ≠ "java/lang/invoke/VarHandle" ∧ (parseMethodDescriptor yX0_many.desc).map (fun d => d.parameters.length) = some 1 := by decide +kernel
theorem hv_X0_many : yX0_many.cls = RX0 ∧ yX0_many.cls ≠ "java/lang/invoke/MethodHandle" ∧ yX0_many.cls ≠ "java/lang/invoke/VarHandle" ∧ (parseMethodDescriptor yX0_many.desc).map (fun d => d.parameters.length) = some 1 := ⟨rfl, hd_X0_many⟩
theorem hu_X0_many : yX0_many.name ≠ "<init>" ∧ (parseMethodDescriptor yX0_many.desc).map (fun d => d.parameters.length) = some 1 := ⟨by decide +kernel, hd_X0_many.2.2⟩
set_option maxHeartbeats 4000000 in
set_option maxRecDepth 100000 in
theorem wk_X0_many {X : XC} (O : XOk X cX0_many RX0 3 62) (hfl : (xL X).stackTraces = false) (hg : (xG X).2.2.2.2 = zAll (xG X).1.1 (xG X).1.2.2.2 (xG X).2.2.2.1) (hr : (xMeth X).sig.returnType = (some .int)) (hm : (xC X).maxLocals = 2) (o : Nat) (x1 : Int32) (s : XS) : Sim X xI (retC X eI xI) 0 [(0, .ref o), (1, .int x1)] [] s (x0_many o x1 s) := by
  have hzz := O.hst
  rw [hg] at hzz
  unfold x0_many
  refine s_iload_n O 1 rfl rfl dX0_many_0 ?_
  refine s_callP O (enc2 := eI) (av := [.int x1]) (rest := []) 1 (fun v0 h0 => mt_X0_isDegree (xL X) (xG X) _ x1 v0 h0) (lw_S q920 q921 q131 q922) hd_X0_isDegree ⟨Nat.le_of_ble_eq_true rfl, Nat.le_of_ble_eq_true rfl⟩ rfl (Nat.le_of_ble_eq_true rfl) dX0_many_1 (fun v1 => ?_)
  refine s_if_eq O (tgt := 15) dX0_many_4 (by decide) ?_ ?_
  · refine s_iconst O (x := (-1)) (by decide) dX0_many_15 ?_
    exact s_ireturn O hr rfl dX0_many_16
  · refine s_aload_n O 0 rfl rfl dX0_many_7 ?_
    refine s_iload_n O 1 rfl rfl dX0_many_8 ?_
    refine x_callV O (enc2 := eI) (ci := 0) (av := [.int x1]) (rest := []) 1 (fun v0 t0 h0 => mt_X0_manyHere (xL X) (xG X) hfl hg o x1 _ t0 v0 h0) (lw_V q924 q926 qs23 q131 q927) hv_X0_manyHere ⟨Nat.le_of_ble_eq_true rfl, Nat.le_of_ble_eq_true rfl⟩ rfl rfl (Nat.le_of_ble_eq_true rfl) dX0_many_9 (fun v3 s4 => ?_)
    refine s_goto O (tgt := 16) dX0_many_12 (by decide) ?_
    exact s_ireturn O hr rfl dX0_many_16
theorem mt_X0_many (l : Launch) (G : XG) (hfl : l.stackTraces = false) (hg : G.2.2.2.2 = zAll G.1.1 G.1.2.2.2 G.2.2.2.1) (o : Nat) (x1 : Int32) (s t : XS) (v : Int32) (h : x0_many o x1 s = some (v, t)) : xMet l yX0_many (ws_ yX0_many cX0_many 2 (some .int)) 3 62 G (xI s) [.ref o, .int x1] (eI v) (xI t) :=
  xMet_of (E := xI) (enc := eI) (by decide +kernel) (Nat.le_of_ble_eq_true rfl) (fun X hl hG O hr hm => by subst hl; subst hG; exact wk_X0_many O hfl hg hr hm o x1 s) h
theorem hd_X0_isMono : yX0_isMono.cls ≠ "java/lang/invoke/MethodHandle" ∧ yX0_isMono.cls ≠ "java/lang/invoke/VarHandle" ∧ (parseMethodDescriptor yX0_isMono.desc).map (fun d => d.parameters.length) = some 2 := by decide +kernel
theorem hv_X0_isMono : yX0_isMono.cls = RX0 ∧ yX0_isMono.cls ≠ "java/lang/invoke/MethodHandle" ∧ yX0_isMono.cls ≠ "java/lang/invoke/VarHandle" ∧ (parseMethodDescriptor yX0_isMono.desc).map (fun d => d.parameters.length) = some 2 := ⟨rfl, hd_X0_isMono⟩
theorem hu_X0_isMono : yX0_isMono.name ≠ "<init>" ∧ (parseMethodDescriptor yX0_isMono.desc).map (fun d => d.parameters.length) = some 2 := ⟨by decide +kernel, hd_X0_isMono.2.2⟩
set_option maxHeartbeats 4000000 in
set_option maxRecDepth 100000 in
theorem wk_X0_isMono {X : XC} (O : XOk X cX0_isMono RX0 3 62) (hfl : (xL X).stackTraces = false) (hg : (xG X).2.2.2.2 = zAll (xG X).1.1 (xG X).1.2.2.2 (xG X).2.2.2.1) (hr : (xMeth X).sig.returnType = (some .boolean)) (hm : (xC X).maxLocals = 3) (o : Nat) (x1 : Int32) (x2 : Int32) (s : XS) : Sim X xI (retC X eI xI) 0 [(0, .ref o), (1, .int x1), (2, .int x2)] [] s (x0_isMono o x1 x2 s) := by
  have hzz := O.hst
  rw [hg] at hzz
  unfold x0_isMono
  refine s_iload_n O 1 rfl rfl dX0_isMono_0 ?_
  refine s_callP O (enc2 := eI) (av := [.int x1]) (rest := []) 1 (fun v0 h0 => mt_X0_isDegree (xL X) (xG X) _ x1 v0 h0) (lw_S q920 q921 q131 q922) hd_X0_isDegree ⟨Nat.le_of_ble_eq_true rfl, Nat.le_of_ble_eq_true rfl⟩ rfl (Nat.le_of_ble_eq_true rfl) dX0_isMono_1 (fun v1 => ?_)
  refine s_if_eq O (tgt := 28) dX0_isMono_4 (by decide) ?_ ?_
  · refine s_iconst O (x := 0) (by decide) dX0_isMono_28 ?_
    exact s_zreturnK O hr rfl rfl dX0_isMono_29
  · refine s_iload_n O 2 rfl rfl dX0_isMono_7 ?_
    refine s_i2l O dX0_isMono_8 ?_
    refine s_lconst O (x := 0) (by decide) dX0_isMono_9 ?_
    refine s_aload_n O 0 rfl rfl dX0_isMono_10 ?_
    refine s_iload_n O 1 rfl rfl dX0_isMono_11 ?_
    refine x_callV O (enc2 := eI) (ci := 0) (av := [.int x1]) (rest := [.long 0, .long x2.toInt64]) 1 (fun v0 t0 h0 => mt_X0_manyHere (xL X) (xG X) hfl hg o x1 _ t0 v0 h0) (lw_V q924 q926 qs23 q131 q927) hv_X0_manyHere ⟨Nat.le_of_ble_eq_true rfl, Nat.le_of_ble_eq_true rfl⟩ rfl rfl (Nat.le_of_ble_eq_true rfl) dX0_isMono_12 (fun v3 s4 => ?_)
    refine s_iconst O (x := 1) (by decide) dX0_isMono_15 ?_
    refine s_isub O dX0_isMono_16 ?_
    refine s_i2l O dX0_isMono_17 ?_
    refine s_callP O (enc2 := eI) (av := [.long x2.toInt64, .long 0, .long ((v3 - 1).toInt64)]) (rest := []) 3 (fun v0 h0 => mt_X0_isIn (xL X) (xG X) _ x2.toInt64 0 ((v3 - 1).toInt64) v0 h0) (lw_S q317 q318 q131 q319) hd_X0_isIn ⟨Nat.le_of_ble_eq_true rfl, Nat.le_of_ble_eq_true rfl⟩ rfl (Nat.le_of_ble_eq_true rfl) dX0_isMono_18 (fun v5 => ?_)
    refine s_if_eq O (tgt := 28) dX0_isMono_21 (by decide) ?_ ?_
    · refine s_iconst O (x := 0) (by decide) dX0_isMono_28 ?_
      exact s_zreturnK O hr rfl rfl dX0_isMono_29
    · refine s_iconst O (x := 1) (by decide) dX0_isMono_24 ?_
      refine s_goto O (tgt := 29) dX0_isMono_25 (by decide) ?_
      exact s_zreturnK O hr rfl rfl dX0_isMono_29
theorem mt_X0_isMono (l : Launch) (G : XG) (hfl : l.stackTraces = false) (hg : G.2.2.2.2 = zAll G.1.1 G.1.2.2.2 G.2.2.2.1) (o : Nat) (x1 : Int32) (x2 : Int32) (s t : XS) (v : Int32) (h : x0_isMono o x1 x2 s = some (v, t)) : xMet l yX0_isMono (ws_ yX0_isMono cX0_isMono 3 (some .boolean)) 3 62 G (xI s) [.ref o, .int x1, .int x2] (eI v) (xI t) :=
  xMet_of (E := xI) (enc := eI) (by decide +kernel) (Nat.le_of_ble_eq_true rfl) (fun X hl hG O hr hm => by subst hl; subst hG; exact wk_X0_isMono O hfl hg hr hm o x1 x2 s) h
theorem hd_X0_laysOne : yX0_laysOne.cls ≠ "java/lang/invoke/MethodHandle" ∧ yX0_laysOne.cls ≠ "java/lang/invoke/VarHandle" ∧ (parseMethodDescriptor yX0_laysOne.desc).map (fun d => d.parameters.length) = some 4 := by decide +kernel
theorem hv_X0_laysOne : yX0_laysOne.cls = RX0 ∧ yX0_laysOne.cls ≠ "java/lang/invoke/MethodHandle" ∧ yX0_laysOne.cls ≠ "java/lang/invoke/VarHandle" ∧ (parseMethodDescriptor yX0_laysOne.desc).map (fun d => d.parameters.length) = some 4 := ⟨rfl, hd_X0_laysOne⟩
theorem hu_X0_laysOne : yX0_laysOne.name ≠ "<init>" ∧ (parseMethodDescriptor yX0_laysOne.desc).map (fun d => d.parameters.length) = some 4 := ⟨by decide +kernel, hd_X0_laysOne.2.2⟩
set_option maxHeartbeats 4000000 in
set_option maxRecDepth 100000 in
theorem wk_X0_laysOne {X : XC} (O : XOk X cX0_laysOne RX0 2 41) (hfl : (xL X).stackTraces = false) (hg : (xG X).2.2.2.2 = zAll (xG X).1.1 (xG X).1.2.2.2 (xG X).2.2.2.1) (hr : (xMeth X).sig.returnType = none) (hm : (xC X).maxLocals = 8) (x0 : Nat) (x1 : Int32) (x2 : Int32) (x3 : Int32) (s : XS) : Sim X xI (retC X eU xI) 0 [(0, .ref x0), (1, .int x1), (2, .int x2), (3, .int x3)] [] s (x0_laysOne x0 x1 x2 x3 s) := by
  have hzz := O.hst
  rw [hg] at hzz
  unfold x0_laysOne
  refine s_iload_n O 2 rfl rfl dX0_laysOne_0 ?_
  refine s_istore O (L' := [(4, .int x2), (0, .ref x0), (1, .int x1), (2, .int x2), (3, .int x3)]) hm (by decide) rfl dX0_laysOne_1 ?_
  refine s_iload_n O 4 rfl rfl dX0_laysOne_3 ?_
  refine s_istore O (L' := [(5, .int x3), (4, .int x2), (0, .ref x0), (1, .int x1), (2, .int x2), (3, .int x3)]) hm (by decide) rfl dX0_laysOne_4 ?_
  refine s_iconst O (x := 0) (by decide) dX0_laysOne_6 ?_
  refine s_istore O (L' := [(6, .int 0), (5, .int x3), (4, .int x2), (0, .ref x0), (1, .int x1), (2, .int x2), (3, .int x3)]) hm (by decide) rfl dX0_laysOne_7 ?_
  refine Sim.sub (L' := [(0, .ref x0), (1, .int x1), (4, .int x2), (5, .int x3), (6, .int 0)]) [3, 4, 2, 1, 0] rfl ?_
  refine s_while (A := Int32 × Int32 × Int32) (B := Unit) (La := fun a9 => [(0, .ref x0), (1, .int x1), (4, .int a9.1), (5, .int a9.2.1), (6, .int a9.2.2)]) (We := fun b9 s11 => xWX X 82 [] [] ((xI) s11)) rfl rfl ?_ ?_
  · intro Cl hn he a9 s1
    unfold x0_laysOne_s9
    refine s_iload O 4 rfl dX0_laysOne_9 ?_
    refine s_iload_n O 1 rfl rfl dX0_laysOne_11 ?_
    refine s_icmp_ge O (tgt := 82) dX0_laysOne_12 (by decide) ?_ ?_
    · refine Sim.sub (L' := []) [] rfl ?_
      exact Sim.ret (he _ _)
    · refine s_iload O 2 rfl dX0_laysOne_15 ?_
      refine s_istore O (L' := [(7, .int a9.1), (0, .ref x0), (1, .int x1), (4, .int a9.1), (5, .int a9.2.1), (6, .int a9.2.2)]) hm (by decide) rfl dX0_laysOne_17 ?_
      refine Sim.sub (L' := [(0, .ref x0), (1, .int x1), (4, .int a9.1), (5, .int a9.2.1), (6, .int a9.2.2), (7, .int a9.1)]) [1, 2, 3, 4, 5, 0] rfl ?_
      refine s_while (A := Int32 × Int32) (B := Int32 × Int32) (La := fun a19 => [(0, .ref x0), (1, .int x1), (4, .int a9.1), (5, .int a19.1), (6, .int a9.2.2), (7, .int a19.2)]) (We := fun b19 s8 => xWX X 63 [(0, .ref x0), (1, .int x1), (4, .int a9.1), (5, .int b19.1), (6, .int a9.2.2), (7, .int b19.2)] [] ((xI) s8)) rfl rfl ?_ ?_
      · intro Cl hn he a19 s2
        unfold x0_laysOne_s19
        refine s_iload O 3 rfl dX0_laysOne_19 ?_
        refine s_iload_n O 1 rfl rfl dX0_laysOne_21 ?_
        refine s_iconst O (x := 1) (by decide) dX0_laysOne_22 ?_
        refine s_isub O dX0_laysOne_23 ?_
        refine s_iload O 4 rfl dX0_laysOne_24 ?_
        refine s_isub O dX0_laysOne_26 ?_
        refine s_iload O 2 rfl dX0_laysOne_27 ?_
        refine s_iload O 5 rfl dX0_laysOne_29 ?_
        refine s_isub O dX0_laysOne_31 ?_
        refine x_callS O (enc2 := eI) (av := [.int ((x1 - 1) - a9.2.2), .int (a9.1 - a19.2)]) (rest := [.int a19.1]) 2 (fun v0 t0 h0 => mt_X0_manyOf (xL X) (xG X) hfl hg ((x1 - 1) - a9.2.2) (a9.1 - a19.2) _ t0 v0 h0) (lw_S q928 q929 q131 q930) hd_X0_manyOf ⟨Nat.le_of_ble_eq_true rfl, Nat.le_of_ble_eq_true rfl⟩ rfl (Nat.le_of_ble_eq_true rfl) dX0_laysOne_32 (fun v3 s4 => ?_)
        refine s_icmp_lt O (tgt := 63) dX0_laysOne_35 (by decide) ?_ ?_
        · exact Sim.ret (he _ _)
        · refine s_iload O 3 rfl dX0_laysOne_38 ?_
          refine s_iload_n O 1 rfl rfl dX0_laysOne_40 ?_
          refine s_iconst O (x := 1) (by decide) dX0_laysOne_41 ?_
          refine s_isub O dX0_laysOne_42 ?_
          refine s_iload O 4 rfl dX0_laysOne_43 ?_
          refine s_isub O dX0_laysOne_45 ?_
          refine s_iload O 2 rfl dX0_laysOne_46 ?_
          refine s_iload O 5 rfl dX0_laysOne_48 ?_
          refine s_isub O dX0_laysOne_50 ?_
          refine x_callS O (enc2 := eI) (av := [.int ((x1 - 1) - a9.2.2), .int (a9.1 - a19.2)]) (rest := [.int a19.1]) 2 (fun v0 t0 h0 => mt_X0_manyOf (xL X) (xG X) hfl hg ((x1 - 1) - a9.2.2) (a9.1 - a19.2) _ t0 v0 h0) (lw_S q928 q929 q131 q930) hd_X0_manyOf ⟨Nat.le_of_ble_eq_true rfl, Nat.le_of_ble_eq_true rfl⟩ rfl (Nat.le_of_ble_eq_true rfl) dX0_laysOne_51 (fun v5 s6 => ?_)
          refine s_isub O dX0_laysOne_54 ?_
          refine s_nmi fun u7 => ?_
          refine s_istore O (L' := [(5, .int u7), (0, .ref x0), (1, .int x1), (4, .int a9.1), (6, .int a9.2.2), (7, .int a19.2)]) hm (by decide) rfl dX0_laysOne_55 ?_
          refine s_iinc O (y := (a19.2 + (-1))) (L' := [(7, .int (a19.2 + (-1))), (5, .int u7), (0, .ref x0), (1, .int x1), (4, .int a9.1), (6, .int a9.2.2)]) 5 rfl hm (by decide) (congrArg (HAdd.hAdd a19.2) (by decide)) rfl dX0_laysOne_57 ?_
          refine s_goto O (tgt := 19) dX0_laysOne_60 (by decide) ?_
          refine Sim.sub (L' := [(0, .ref x0), (1, .int x1), (4, .int a9.1), (5, .int u7), (6, .int a9.2.2), (7, .int (a19.2 + (-1)))]) [2, 3, 4, 1, 5, 0] rfl ?_
          exact Sim.ret (hn _ _)
      · intro b19 s8
        show Sim X (xI) Cl 63 [(0, .ref x0), (1, .int x1), (4, .int a9.1), (5, .int b19.1), (6, .int a9.2.2), (7, .int b19.2)] [] s8 _
        refine s_aload_n O 0 rfl rfl dX0_laysOne_63 ?_
        refine s_iload O 4 rfl dX0_laysOne_64 ?_
        refine s_iload O 5 rfl dX0_laysOne_66 ?_
        refine x_iast O dX0_laysOne_68 (fun s9 => ?_)
        refine s_iload O 2 rfl dX0_laysOne_69 ?_
        refine s_iload O 5 rfl dX0_laysOne_71 ?_
        refine s_isub O dX0_laysOne_73 ?_
        refine s_nmi fun u10 => ?_
        refine s_istore O (L' := [(4, .int u10), (0, .ref x0), (1, .int x1), (5, .int b19.1), (6, .int a9.2.2), (7, .int b19.2)]) hm (by decide) rfl dX0_laysOne_74 ?_
        refine s_iinc O (y := (a9.2.2 + 1)) (L' := [(6, .int (a9.2.2 + 1)), (4, .int u10), (0, .ref x0), (1, .int x1), (5, .int b19.1), (7, .int b19.2)]) 4 rfl hm (by decide) rfl rfl dX0_laysOne_76 ?_
        refine s_goto O (tgt := 9) dX0_laysOne_79 (by decide) ?_
        refine Sim.sub (L' := [(0, .ref x0), (1, .int x1), (4, .int u10), (5, .int b19.1), (6, .int (a9.2.2 + 1))]) [2, 3, 1, 4, 0] rfl ?_
        exact Sim.ret (hn _ _)
  · intro b9 s11
    show Sim X (xI) (retC X eU xI) 82 [] [] s11 _
    exact s_return O hr rfl dX0_laysOne_82
theorem mt_X0_laysOne (l : Launch) (G : XG) (hfl : l.stackTraces = false) (hg : G.2.2.2.2 = zAll G.1.1 G.1.2.2.2 G.2.2.2.1) (x0 : Nat) (x1 : Int32) (x2 : Int32) (x3 : Int32) (s t : XS) (v : Unit) (h : x0_laysOne x0 x1 x2 x3 s = some (v, t)) : xMet l yX0_laysOne (ws_ yX0_laysOne cX0_laysOne 8 none) 2 41 G (xI s) [.ref x0, .int x1, .int x2, .int x3] (eU v) (xI t) :=
  xMet_of (E := xI) (enc := eU) (by decide +kernel) (Nat.le_of_ble_eq_true rfl) (fun X hl hG O hr hm => by subst hl; subst hG; exact wk_X0_laysOne O hfl hg hr hm x0 x1 x2 x3 s) h
theorem hd_X5_init_2 : yX5_init_2.cls ≠ "java/lang/invoke/MethodHandle" ∧ yX5_init_2.cls ≠ "java/lang/invoke/VarHandle" ∧ (parseMethodDescriptor yX5_init_2.desc).map (fun d => d.parameters.length) = some 3 := by decide +kernel
theorem hv_X5_init_2 : yX5_init_2.cls = RX5 ∧ yX5_init_2.cls ≠ "java/lang/invoke/MethodHandle" ∧ yX5_init_2.cls ≠ "java/lang/invoke/VarHandle" ∧ (parseMethodDescriptor yX5_init_2.desc).map (fun d => d.parameters.length) = some 3 := ⟨rfl, hd_X5_init_2⟩
set_option maxHeartbeats 4000000 in
set_option maxRecDepth 100000 in
theorem wk_X5_init_2 {X : XC} (O : XOk X cX5_init_2 RX5 3 68) (hfl : (xL X).stackTraces = false) (hg : (xG X).2.2.2.2 = zAll (xG X).1.1 (xG X).1.2.2.2 (xG X).2.2.2.1) (hr : (xMeth X).sig.returnType = none) (hm : (xC X).maxLocals = 4) (o : Nat) (x1 : Int32) (x2 : Int32) (x3 : Int32) (s : XS) : Sim X xI (retC X eU xI) 0 [(0, .ref o), (1, .int x1), (2, .int x2), (3, .int x3)] [] s (x5_init_2 o x1 x2 x3 s) := by
  have hzz := O.hst
  rw [hg] at hzz
  unfold x5_init_2
  refine s_aload_n O 0 rfl rfl dX5_init_2_0 ?_
  refine s_iconst O (x := 0) (by decide) dX5_init_2_1 ?_
  refine x_newI O q204 dX5_init_2_2 (fun p1 s2 => ?_)
  refine x_callI O (enc2 := eU) (av := [.ref p1]) (rest := []) 1 (fun v0 t0 h0 => mt_X5_init (xL X) (xG X) hfl hg o p1 _ t0 v0 h0) q704 q151 q949 q703 rfl hd_X5_init ⟨Nat.le_of_ble_eq_true rfl, Nat.le_of_ble_eq_true rfl⟩ rfl (Nat.le_of_ble_eq_true rfl) dX5_init_2_4 (fun v3 s4 => ?_)
  refine s_aload_n O 0 rfl rfl dX5_init_2_7 ?_
  refine x_get O (ci := 5) (T := TX5) (N := 2) in_X5 rfl 0 (by decide) q706 (fun _ h => h) dX5_init_2_8 (fun v0 => ?_)
  refine s_vR (fun r5 => ?_)
  refine s_iload_n O 1 rfl rfl dX5_init_2_11 ?_
  refine s_iload_n O 2 rfl rfl dX5_init_2_12 ?_
  refine s_iload_n O 3 rfl rfl dX5_init_2_13 ?_
  refine s_dr (fun p6 hp7 => ?_)
  subst hp7
  refine x_callSN O (enc2 := eU) (av := [.ref p6, .int x1, .int x2, .int x3]) (rest := []) 4 (fun v0 t0 h0 => mt_X0_laysOne (xL X) (xG X) hfl hg p6 x1 x2 x3 _ t0 v0 h0) q952 (zm_q950 hzz) q131 q951 hd_X0_laysOne ⟨Nat.le_of_ble_eq_true rfl, Nat.le_of_ble_eq_true rfl⟩ rfl (Nat.le_of_ble_eq_true rfl) dX5_init_2_14 (fun v8 s9 => ?_)
  refine s_aload_n O 0 rfl rfl dX5_init_2_17 ?_
  refine s_iload_n O 2 rfl rfl dX5_init_2_18 ?_
  refine x_put O (ci := 5) (T := TX5) (N := 2) (ty := .int) in_X5 tyX5 tyX5_ok nmX5 rfl 1 (by decide) q709 (fun _ h => h) rfl (by decide +kernel) rfl rfl dX5_init_2_19 (fun s10 => ?_)
  exact s_return O hr rfl dX5_init_2_22
theorem mt_X5_init_2 (l : Launch) (G : XG) (hfl : l.stackTraces = false) (hg : G.2.2.2.2 = zAll G.1.1 G.1.2.2.2 G.2.2.2.1) (o : Nat) (x1 : Int32) (x2 : Int32) (x3 : Int32) (s t : XS) (v : Unit) (h : x5_init_2 o x1 x2 x3 s = some (v, t)) : xMet l yX5_init_2 (ws_ yX5_init_2 cX5_init_2 4 none) 3 68 G (xI s) [.ref o, .int x1, .int x2, .int x3] (eU v) (xI t) :=
  xMet_of (E := xI) (enc := eU) (by decide +kernel) (Nat.le_of_ble_eq_true rfl) (fun X hl hG O hr hm => by subst hl; subst hG; exact wk_X5_init_2 O hfl hg hr hm o x1 x2 x3 s) h
theorem hd_X0_mono : yX0_mono.cls ≠ "java/lang/invoke/MethodHandle" ∧ yX0_mono.cls ≠ "java/lang/invoke/VarHandle" ∧ (parseMethodDescriptor yX0_mono.desc).map (fun d => d.parameters.length) = some 2 := by decide +kernel
theorem hv_X0_mono : yX0_mono.cls = RX0 ∧ yX0_mono.cls ≠ "java/lang/invoke/MethodHandle" ∧ yX0_mono.cls ≠ "java/lang/invoke/VarHandle" ∧ (parseMethodDescriptor yX0_mono.desc).map (fun d => d.parameters.length) = some 2 := ⟨rfl, hd_X0_mono⟩
theorem hu_X0_mono : yX0_mono.name ≠ "<init>" ∧ (parseMethodDescriptor yX0_mono.desc).map (fun d => d.parameters.length) = some 2 := ⟨by decide +kernel, hd_X0_mono.2.2⟩
set_option maxHeartbeats 4000000 in
set_option maxRecDepth 100000 in
theorem wk_X0_mono {X : XC} (O : XOk X cX0_mono RX0 4 91) (hfl : (xL X).stackTraces = false) (hg : (xG X).2.2.2.2 = zAll (xG X).1.1 (xG X).1.2.2.2 (xG X).2.2.2.1) (hr : (xMeth X).sig.returnType = (some (.object "QuotientRows$Mono"))) (hm : (xC X).maxLocals = 3) (o : Nat) (x1 : Int32) (x2 : Int32) (s : XS) : Sim X xI (retC X eR xI) 0 [(0, .ref o), (1, .int x1), (2, .int x2)] [] s (x0_mono o x1 x2 s) := by
  have hzz := O.hst
  rw [hg] at hzz
  unfold x0_mono
  refine x_new O (ci := 5) (T := TX5) (N := 2) (fs := dfX5) in_X5 tyX5 tyX5_ok rfl 2 q945 q701 q151 rfl dfX5_ok dX0_mono_0 (fun p1 s2 => ?_)
  refine s_dup O rfl dX0_mono_3 ?_
  refine s_aload_n O 0 rfl rfl dX0_mono_4 ?_
  refine x_get O (ci := 0) (T := TX0) (N := 20) in_X0 rfl 3 (by decide) q234 (fun _ h => h) dX0_mono_5 (fun v0 => ?_)
  refine s_vR (fun r3 => ?_)
  refine s_dr (fun p4 hp5 => ?_)
  subst hp5
  refine x_getN O (ci := 1) (T := TX1) (N := 6) in_X1 rfl 0 (by decide) (zf_q206 hzz) (fun _ h => h) dX0_mono_8 (fun v0 => ?_)
  refine s_vI (fun u6 => ?_)
  refine s_iload_n O 1 rfl rfl dX0_mono_11 ?_
  refine s_iload_n O 2 rfl rfl dX0_mono_12 ?_
  refine x_callI O (enc2 := eU) (av := [.int u6, .int x1, .int x2]) (rest := [.ref p1]) 3 (fun v0 t0 h0 => mt_X5_init_2 (xL X) (xG X) hfl hg p1 u6 x1 x2 _ t0 v0 h0) q948 q151 q946 q947 rfl hd_X5_init_2 ⟨Nat.le_of_ble_eq_true rfl, Nat.le_of_ble_eq_true rfl⟩ rfl (Nat.le_of_ble_eq_true rfl) dX0_mono_13 (fun v7 s8 => ?_)
  exact s_areturnQ O (r := (some p1)) hr (Or.inl ⟨_, rfl⟩) rfl dX0_mono_16
theorem mt_X0_mono (l : Launch) (G : XG) (hfl : l.stackTraces = false) (hg : G.2.2.2.2 = zAll G.1.1 G.1.2.2.2 G.2.2.2.1) (o : Nat) (x1 : Int32) (x2 : Int32) (s t : XS) (v : Option Nat) (h : x0_mono o x1 x2 s = some (v, t)) : xMet l yX0_mono (ws_ yX0_mono cX0_mono 3 (some (.object "QuotientRows$Mono"))) 4 91 G (xI s) [.ref o, .int x1, .int x2] (eR v) (xI t) :=
  xMet_of (E := xI) (enc := eR) (by decide +kernel) (Nat.le_of_ble_eq_true rfl) (fun X hl hG O hr hm => by subst hl; subst hG; exact wk_X0_mono O hfl hg hr hm o x1 x2 s) h
theorem hd_X0_power : yX0_power.cls ≠ "java/lang/invoke/MethodHandle" ∧ yX0_power.cls ≠ "java/lang/invoke/VarHandle" ∧ (parseMethodDescriptor yX0_power.desc).map (fun d => d.parameters.length) = some 3 := by decide +kernel
theorem hv_X0_power : yX0_power.cls = RX0 ∧ yX0_power.cls ≠ "java/lang/invoke/MethodHandle" ∧ yX0_power.cls ≠ "java/lang/invoke/VarHandle" ∧ (parseMethodDescriptor yX0_power.desc).map (fun d => d.parameters.length) = some 3 := ⟨rfl, hd_X0_power⟩
theorem hu_X0_power : yX0_power.name ≠ "<init>" ∧ (parseMethodDescriptor yX0_power.desc).map (fun d => d.parameters.length) = some 3 := ⟨by decide +kernel, hd_X0_power.2.2⟩
set_option maxHeartbeats 4000000 in
set_option maxRecDepth 100000 in
theorem wk_X0_power {X : XC} (O : XOk X cX0_power RX0 5 113) (hfl : (xL X).stackTraces = false) (hg : (xG X).2.2.2.2 = zAll (xG X).1.1 (xG X).1.2.2.2 (xG X).2.2.2.1) (hr : (xMeth X).sig.returnType = (some .int)) (hm : (xC X).maxLocals = 4) (o : Nat) (x1 : Int32) (x2 : Int32) (x3 : Int32) (s : XS) : Sim X xI (retC X eI xI) 0 [(0, .ref o), (1, .int x1), (2, .int x2), (3, .int x3)] [] s (x0_power o x1 x2 x3 s) := by
  have hzz := O.hst
  rw [hg] at hzz
  unfold x0_power
  refine s_aload_n O 0 rfl rfl dX0_power_0 ?_
  refine s_iload_n O 1 rfl rfl dX0_power_1 ?_
  refine s_iload_n O 2 rfl rfl dX0_power_2 ?_
  refine x_callV O (enc2 := eI) (ci := 0) (av := [.int x1, .int x2]) (rest := []) 2 (fun v0 t0 h0 => mt_X0_isMono (xL X) (xG X) hfl hg o x1 x2 _ t0 v0 h0) (lw_V q937 q939 qs24 q131 q940) hv_X0_isMono ⟨Nat.le_of_ble_eq_true rfl, Nat.le_of_ble_eq_true rfl⟩ rfl rfl (Nat.le_of_ble_eq_true rfl) dX0_power_3 (fun v1 s2 => ?_)
  refine s_if_eq O (tgt := 42) dX0_power_6 (by decide) ?_ ?_
  · refine s_iconst O (x := (-1)) (by decide) dX0_power_42 ?_
    exact s_ireturn O hr rfl dX0_power_43
  · refine s_iload_n O 3 rfl rfl dX0_power_9 ?_
    refine s_i2l O dX0_power_10 ?_
    refine s_lconst O (x := 0) (by decide) dX0_power_11 ?_
    refine s_aload_n O 0 rfl rfl dX0_power_12 ?_
    refine x_get O (ci := 0) (T := TX0) (N := 20) in_X0 rfl 3 (by decide) q234 (fun _ h => h) dX0_power_13 (fun v0 => ?_)
    refine s_vR (fun r3 => ?_)
    refine s_dr (fun p4 hp5 => ?_)
    subst hp5
    refine x_getN O (ci := 1) (T := TX1) (N := 6) in_X1 rfl 0 (by decide) (zf_q206 hzz) (fun _ h => h) dX0_power_16 (fun v0 => ?_)
    refine s_vI (fun u6 => ?_)
    refine s_iconst O (x := 1) (by decide) dX0_power_19 ?_
    refine s_isub O dX0_power_20 ?_
    refine s_i2l O dX0_power_21 ?_
    refine s_callP O (enc2 := eI) (av := [.long x3.toInt64, .long 0, .long ((u6 - 1).toInt64)]) (rest := []) 3 (fun v0 h0 => mt_X0_isIn (xL X) (xG X) _ x3.toInt64 0 ((u6 - 1).toInt64) v0 h0) (lw_S q317 q318 q131 q319) hd_X0_isIn ⟨Nat.le_of_ble_eq_true rfl, Nat.le_of_ble_eq_true rfl⟩ rfl (Nat.le_of_ble_eq_true rfl) dX0_power_22 (fun v7 => ?_)
    refine s_if_eq O (tgt := 42) dX0_power_25 (by decide) ?_ ?_
    · refine s_iconst O (x := (-1)) (by decide) dX0_power_42 ?_
      exact s_ireturn O hr rfl dX0_power_43
    · refine s_aload_n O 0 rfl rfl dX0_power_28 ?_
      refine s_iload_n O 1 rfl rfl dX0_power_29 ?_
      refine s_iload_n O 2 rfl rfl dX0_power_30 ?_
      refine x_callV O (enc2 := eR) (ci := 0) (av := [.int x1, .int x2]) (rest := []) 2 (fun v0 t0 h0 => mt_X0_mono (xL X) (xG X) hfl hg o x1 x2 _ t0 v0 h0) (lw_V q941 q943 qs25 q131 q944) hv_X0_mono ⟨Nat.le_of_ble_eq_true rfl, Nat.le_of_ble_eq_true rfl⟩ rfl rfl (Nat.le_of_ble_eq_true rfl) dX0_power_31 (fun r9 s10 => ?_)
      refine s_dr (fun p11 hp12 => ?_)
      subst hp12
      refine x_getN O (ci := 5) (T := TX5) (N := 2) in_X5 rfl 0 (by decide) (zf_q708 hzz) (fun _ h => h) dX0_power_34 (fun v0 => ?_)
      refine s_vR (fun r13 => ?_)
      refine s_iload_n O 3 rfl rfl dX0_power_37 ?_
      refine s_dr (fun p14 hp15 => ?_)
      subst hp15
      refine x_iald O dX0_power_38 (fun u16 => ?_)
      refine s_goto O (tgt := 43) dX0_power_39 (by decide) ?_
      exact s_ireturn O hr rfl dX0_power_43
theorem mt_X0_power (l : Launch) (G : XG) (hfl : l.stackTraces = false) (hg : G.2.2.2.2 = zAll G.1.1 G.1.2.2.2 G.2.2.2.1) (o : Nat) (x1 : Int32) (x2 : Int32) (x3 : Int32) (s t : XS) (v : Int32) (h : x0_power o x1 x2 x3 s = some (v, t)) : xMet l yX0_power (ws_ yX0_power cX0_power 4 (some .int)) 5 113 G (xI s) [.ref o, .int x1, .int x2, .int x3] (eI v) (xI t) :=
  xMet_of (E := xI) (enc := eI) (by decide +kernel) (Nat.le_of_ble_eq_true rfl) (fun X hl hG O hr hm => by subst hl; subst hG; exact wk_X0_power O hfl hg hr hm o x1 x2 x3 s) h
theorem hd_X0_arePowers : yX0_arePowers.cls ≠ "java/lang/invoke/MethodHandle" ∧ yX0_arePowers.cls ≠ "java/lang/invoke/VarHandle" ∧ (parseMethodDescriptor yX0_arePowers.desc).map (fun d => d.parameters.length) = some 1 := by decide +kernel
theorem hv_X0_arePowers : yX0_arePowers.cls = RX0 ∧ yX0_arePowers.cls ≠ "java/lang/invoke/MethodHandle" ∧ yX0_arePowers.cls ≠ "java/lang/invoke/VarHandle" ∧ (parseMethodDescriptor yX0_arePowers.desc).map (fun d => d.parameters.length) = some 1 := ⟨rfl, hd_X0_arePowers⟩
theorem hu_X0_arePowers : yX0_arePowers.name ≠ "<init>" ∧ (parseMethodDescriptor yX0_arePowers.desc).map (fun d => d.parameters.length) = some 1 := ⟨by decide +kernel, hd_X0_arePowers.2.2⟩
set_option maxHeartbeats 4000000 in
set_option maxRecDepth 100000 in
theorem wk_X0_arePowers {X : XC} (O : XOk X cX0_arePowers RX0 0 0) (hfl : (xL X).stackTraces = false) (hg : (xG X).2.2.2.2 = zAll (xG X).1.1 (xG X).1.2.2.2 (xG X).2.2.2.1) (hr : (xMeth X).sig.returnType = (some .boolean)) (hm : (xC X).maxLocals = 5) (o : Nat) (x1 : Nat) (s : XS) : Sim X xI (retC X eI xI) 0 [(0, .ref o), (1, .ref x1)] [] s (x0_arePowers o x1 s) := by
  have hzz := O.hst
  rw [hg] at hzz
  unfold x0_arePowers
  refine s_lconst O (x := 0) (by decide) dX0_arePowers_0 ?_
  refine s_lstore_n O (L' := [(2, .long 0), (0, .ref o), (1, .ref x1)]) hm (by decide) rfl rfl dX0_arePowers_1 ?_
  refine s_iconst O (x := 0) (by decide) dX0_arePowers_2 ?_
  refine s_istore O (L' := [(4, .int 0), (2, .long 0), (0, .ref o), (1, .ref x1)]) hm (by decide) rfl dX0_arePowers_3 ?_
  refine Sim.sub (L' := [(0, .ref o), (1, .ref x1), (2, .long 0), (4, .int 0)]) [2, 3, 1, 0] rfl ?_
  refine s_while (A := Int64 × Int32) (B := (Unit) ⊕ (Int64)) (La := fun a5 => [(0, .ref o), (1, .ref x1), (2, .long a5.1), (4, .int a5.2)]) (We := fun bb0 s12 => match bb0 with | .inl b5 => xWX X 38 [] [] ((xI) s12) | .inr b5 => xWX X 54 [(2, .long b5)] [] ((xI) s12)) rfl rfl ?_ ?_
  · intro Cl hn he a5 s1
    unfold x0_arePowers_s5
    have hj40 : ∀ (x2_40 : Int64) (x4_40 : Int32) (s5 : XS), Sim X (xI) Cl 40 [(0, .ref o), (1, .ref x1), (2, .long x2_40), (4, .int x4_40)] [] s5 (x0_arePowers_j40 x1 x2_40 x4_40 s5) := by
      intro x2_40 x4_40 s5
      unfold x0_arePowers_j40
      refine s_lload_n O 2 rfl rfl dX0_arePowers_40 ?_
      refine s_aload_n O 1 rfl rfl dX0_arePowers_41 ?_
      refine s_iload O 3 rfl dX0_arePowers_42 ?_
      refine x_iald O dX0_arePowers_44 (fun u6 => ?_)
      refine s_i2l O dX0_arePowers_45 ?_
      refine s_ladd O dX0_arePowers_46 ?_
      refine s_nml fun w7 => ?_
      refine s_lstore_n O (L' := [(2, .long w7), (0, .ref o), (1, .ref x1), (4, .int x4_40)]) hm (by decide) rfl rfl dX0_arePowers_47 ?_
      refine s_iinc O (y := (x4_40 + 1)) (L' := [(4, .int (x4_40 + 1)), (2, .long w7), (0, .ref o), (1, .ref x1)]) 3 rfl hm (by decide) rfl rfl dX0_arePowers_48 ?_
      refine s_goto O (tgt := 5) dX0_arePowers_51 (by decide) ?_
      refine Sim.sub (L' := [(0, .ref o), (1, .ref x1), (2, .long w7), (4, .int (x4_40 + 1))]) [2, 3, 1, 0] rfl ?_
      exact Sim.ret (hn _ _)
    refine s_iload O 3 rfl dX0_arePowers_5 ?_
    refine s_aload_n O 1 rfl rfl dX0_arePowers_7 ?_
    refine x_alen O dX0_arePowers_8 (fun u2 => ?_)
    refine s_icmp_ge O (tgt := 54) dX0_arePowers_9 (by decide) ?_ ?_
    · refine Sim.sub (L' := [(2, .long a5.1)]) [2] rfl ?_
      exact Sim.ret (he _ _)
    · refine s_aload_n O 1 rfl rfl dX0_arePowers_12 ?_
      refine s_iload O 3 rfl dX0_arePowers_13 ?_
      refine x_iald O dX0_arePowers_15 (fun u3 => ?_)
      refine s_if_lt O (tgt := 38) dX0_arePowers_16 (by decide) ?_ ?_
      · refine Sim.sub (L' := []) [] rfl ?_
        exact Sim.ret (he _ _)
      · refine s_aload_n O 1 rfl rfl dX0_arePowers_19 ?_
        refine s_iload O 3 rfl dX0_arePowers_20 ?_
        refine x_iald O dX0_arePowers_22 (fun u4 => ?_)
        refine s_if_le O (tgt := 40) dX0_arePowers_23 (by decide) ?_ ?_
        · exact hj40 a5.1 a5.2 _
        · refine s_iload O 3 rfl dX0_arePowers_26 ?_
          refine s_aload_n O 0 rfl rfl dX0_arePowers_28 ?_
          refine x_get O (ci := 0) (T := TX0) (N := 20) in_X0 rfl 3 (by decide) q234 (fun _ h => h) dX0_arePowers_29 (fun v0 => ?_)
          refine s_vR (fun r8 => ?_)
          refine s_dr (fun p9 hp10 => ?_)
          subst hp10
          refine x_getN O (ci := 1) (T := TX1) (N := 6) in_X1 rfl 0 (by decide) (zf_q206 hzz) (fun _ h => h) dX0_arePowers_32 (fun v0 => ?_)
          refine s_vI (fun u11 => ?_)
          refine s_icmp_lt O (tgt := 40) dX0_arePowers_35 (by decide) ?_ ?_
          · exact hj40 a5.1 a5.2 _
          · refine Sim.sub (L' := []) [] rfl ?_
            exact Sim.ret (he _ _)
  · intro bb0 s12
    rcases bb0 with b5 | b5
    · show Sim X (xI) (retC X eI xI) 38 [] [] s12 _
      dsimp only
      refine s_iconst O (x := 0) (by decide) dX0_arePowers_38 ?_
      exact s_zreturnK O hr rfl rfl dX0_arePowers_39
    · show Sim X (xI) (retC X eI xI) 54 [(2, .long b5)] [] s12 _
      dsimp only
      refine s_lload_n O 0 rfl rfl dX0_arePowers_54 ?_
      refine s_ldc2 O (x := 40) q923 dX0_arePowers_55 ?_
      refine s_lcmp_gt O (tgt := 66) dX0_arePowers_58 dX0_arePowers_59 (by decide) ?_ ?_
      · refine s_iconst O (x := 0) (by decide) dX0_arePowers_66 ?_
        exact s_zreturnK O hr rfl rfl dX0_arePowers_67
      · refine s_iconst O (x := 1) (by decide) dX0_arePowers_62 ?_
        refine s_goto O (tgt := 67) dX0_arePowers_63 (by decide) ?_
        exact s_zreturnK O hr rfl rfl dX0_arePowers_67
theorem mt_X0_arePowers (l : Launch) (G : XG) (hfl : l.stackTraces = false) (hg : G.2.2.2.2 = zAll G.1.1 G.1.2.2.2 G.2.2.2.1) (o : Nat) (x1 : Nat) (s t : XS) (v : Int32) (h : x0_arePowers o x1 s = some (v, t)) : xMet l yX0_arePowers (ws_ yX0_arePowers cX0_arePowers 5 (some .boolean)) 0 0 G (xI s) [.ref o, .ref x1] (eI v) (xI t) :=
  xMet_of (E := xI) (enc := eI) (by decide +kernel) (Nat.le_of_ble_eq_true rfl) (fun X hl hG O hr hm => by subst hl; subst hG; exact wk_X0_arePowers O hfl hg hr hm o x1 s) h
theorem hd_X0_numberOf : yX0_numberOf.cls ≠ "java/lang/invoke/MethodHandle" ∧ yX0_numberOf.cls ≠ "java/lang/invoke/VarHandle" ∧ (parseMethodDescriptor yX0_numberOf.desc).map (fun d => d.parameters.length) = some 3 := by decide +kernel
theorem hv_X0_numberOf : yX0_numberOf.cls = RX0 ∧ yX0_numberOf.cls ≠ "java/lang/invoke/MethodHandle" ∧ yX0_numberOf.cls ≠ "java/lang/invoke/VarHandle" ∧ (parseMethodDescriptor yX0_numberOf.desc).map (fun d => d.parameters.length) = some 3 := ⟨rfl, hd_X0_numberOf⟩
theorem hu_X0_numberOf : yX0_numberOf.name ≠ "<init>" ∧ (parseMethodDescriptor yX0_numberOf.desc).map (fun d => d.parameters.length) = some 3 := ⟨by decide +kernel, hd_X0_numberOf.2.2⟩
set_option maxHeartbeats 4000000 in
set_option maxRecDepth 100000 in
theorem wk_X0_numberOf {X : XC} (O : XOk X cX0_numberOf RX0 2 41) (hfl : (xL X).stackTraces = false) (hg : (xG X).2.2.2.2 = zAll (xG X).1.1 (xG X).1.2.2.2 (xG X).2.2.2.1) (hr : (xMeth X).sig.returnType = (some .int)) (hm : (xC X).maxLocals = 7) (x0 : Nat) (x1 : Int32) (x2 : Int32) (s : XS) : Sim X xI (retC X eI xI) 0 [(0, .ref x0), (1, .int x1), (2, .int x2)] [] s (x0_numberOf x0 x1 x2 s) := by
  have hzz := O.hst
  rw [hg] at hzz
  unfold x0_numberOf
  refine s_iconst O (x := 0) (by decide) dX0_numberOf_0 ?_
  refine s_istore_n O (L' := [(3, .int 0), (0, .ref x0), (1, .int x1), (2, .int x2)]) hm (by decide) rfl rfl dX0_numberOf_1 ?_
  refine s_iload_n O 2 rfl rfl dX0_numberOf_2 ?_
  refine s_istore O (L' := [(4, .int x1), (3, .int 0), (0, .ref x0), (1, .int x1), (2, .int x2)]) hm (by decide) rfl dX0_numberOf_3 ?_
  refine s_iconst O (x := 0) (by decide) dX0_numberOf_5 ?_
  refine s_istore O (L' := [(5, .int 0), (4, .int x1), (3, .int 0), (0, .ref x0), (1, .int x1), (2, .int x2)]) hm (by decide) rfl dX0_numberOf_6 ?_
  refine Sim.sub (L' := [(0, .ref x0), (2, .int x2), (3, .int 0), (4, .int x1), (5, .int 0)]) [3, 5, 2, 1, 0] rfl ?_
  refine s_while (A := Int32 × Int32 × Int32) (B := Int32) (La := fun a8 => [(0, .ref x0), (2, .int x2), (3, .int a8.1), (4, .int a8.2.1), (5, .int a8.2.2)]) (We := fun b8 s10 => xWX X 65 [(3, .int b8)] [] ((xI) s10)) rfl rfl ?_ ?_
  · intro Cl hn he a8 s1
    unfold x0_numberOf_s8
    refine s_iload O 4 rfl dX0_numberOf_8 ?_
    refine s_iload_n O 1 rfl rfl dX0_numberOf_10 ?_
    refine s_icmp_ge O (tgt := 65) dX0_numberOf_11 (by decide) ?_ ?_
    · refine Sim.sub (L' := [(3, .int a8.1)]) [2] rfl ?_
      exact Sim.ret (he _ _)
    · refine s_iload O 3 rfl dX0_numberOf_14 ?_
      refine s_istore O (L' := [(6, .int a8.2.1), (0, .ref x0), (2, .int x2), (3, .int a8.1), (4, .int a8.2.1), (5, .int a8.2.2)]) hm (by decide) rfl dX0_numberOf_16 ?_
      refine Sim.sub (L' := [(0, .ref x0), (2, .int x2), (3, .int a8.1), (4, .int a8.2.1), (5, .int a8.2.2), (6, .int a8.2.1)]) [1, 2, 3, 4, 5, 0] rfl ?_
      refine s_while (A := Int32 × Int32) (B := Int32) (La := fun a18 => [(0, .ref x0), (2, .int x2), (3, .int a18.1), (4, .int a8.2.1), (5, .int a8.2.2), (6, .int a18.2)]) (We := fun b18 s7 => xWX X 50 [(0, .ref x0), (2, .int x2), (3, .int b18), (4, .int a8.2.1), (5, .int a8.2.2)] [] ((xI) s7)) rfl rfl ?_ ?_
      · intro Cl hn he a18 s2
        unfold x0_numberOf_s18
        refine s_iload O 5 rfl dX0_numberOf_18 ?_
        refine s_aload_n O 0 rfl rfl dX0_numberOf_20 ?_
        refine s_iload O 4 rfl dX0_numberOf_21 ?_
        refine x_iald O dX0_numberOf_23 (fun u3 => ?_)
        refine s_icmp_le O (tgt := 50) dX0_numberOf_24 (by decide) ?_ ?_
        · refine Sim.sub (L' := [(0, .ref x0), (2, .int x2), (3, .int a18.1), (4, .int a8.2.1), (5, .int a8.2.2)]) [0, 1, 2, 3, 4] rfl ?_
          exact Sim.ret (he _ _)
        · refine s_iload_n O 2 rfl rfl dX0_numberOf_27 ?_
          refine s_iload_n O 1 rfl rfl dX0_numberOf_28 ?_
          refine s_iconst O (x := 1) (by decide) dX0_numberOf_29 ?_
          refine s_isub O dX0_numberOf_30 ?_
          refine s_iload O 4 rfl dX0_numberOf_31 ?_
          refine s_isub O dX0_numberOf_33 ?_
          refine s_iload O 3 rfl dX0_numberOf_34 ?_
          refine s_iload O 5 rfl dX0_numberOf_36 ?_
          refine s_isub O dX0_numberOf_38 ?_
          refine x_callS O (enc2 := eI) (av := [.int ((x2 - 1) - a8.2.2), .int (a8.2.1 - a18.2)]) (rest := [.int a18.1]) 2 (fun v0 t0 h0 => mt_X0_manyOf (xL X) (xG X) hfl hg ((x2 - 1) - a8.2.2) (a8.2.1 - a18.2) _ t0 v0 h0) (lw_S q928 q929 q131 q930) hd_X0_manyOf ⟨Nat.le_of_ble_eq_true rfl, Nat.le_of_ble_eq_true rfl⟩ rfl (Nat.le_of_ble_eq_true rfl) dX0_numberOf_39 (fun v4 s5 => ?_)
          refine s_iadd O dX0_numberOf_42 ?_
          refine s_nmi fun u6 => ?_
          refine s_istore_n O (L' := [(3, .int u6), (0, .ref x0), (2, .int x2), (4, .int a8.2.1), (5, .int a8.2.2), (6, .int a18.2)]) hm (by decide) rfl rfl dX0_numberOf_43 ?_
          refine s_iinc O (y := (a18.2 + (-1))) (L' := [(6, .int (a18.2 + (-1))), (3, .int u6), (0, .ref x0), (2, .int x2), (4, .int a8.2.1), (5, .int a8.2.2)]) 5 rfl hm (by decide) (congrArg (HAdd.hAdd a18.2) (by decide)) rfl dX0_numberOf_44 ?_
          refine s_goto O (tgt := 18) dX0_numberOf_47 (by decide) ?_
          refine Sim.sub (L' := [(0, .ref x0), (2, .int x2), (3, .int u6), (4, .int a8.2.1), (5, .int a8.2.2), (6, .int (a18.2 + (-1)))]) [2, 3, 1, 4, 5, 0] rfl ?_
          exact Sim.ret (hn _ _)
      · intro b18 s7
        show Sim X (xI) Cl 50 [(0, .ref x0), (2, .int x2), (3, .int b18), (4, .int a8.2.1), (5, .int a8.2.2)] [] s7 _
        refine s_iload O 3 rfl dX0_numberOf_50 ?_
        refine s_aload_n O 0 rfl rfl dX0_numberOf_52 ?_
        refine s_iload O 4 rfl dX0_numberOf_53 ?_
        refine x_iald O dX0_numberOf_55 (fun u8 => ?_)
        refine s_isub O dX0_numberOf_56 ?_
        refine s_nmi fun u9 => ?_
        refine s_istore O (L' := [(4, .int u9), (0, .ref x0), (2, .int x2), (3, .int b18), (5, .int a8.2.2)]) hm (by decide) rfl dX0_numberOf_57 ?_
        refine s_iinc O (y := (a8.2.2 + 1)) (L' := [(5, .int (a8.2.2 + 1)), (4, .int u9), (0, .ref x0), (2, .int x2), (3, .int b18)]) 4 rfl hm (by decide) rfl rfl dX0_numberOf_59 ?_
        refine s_goto O (tgt := 8) dX0_numberOf_62 (by decide) ?_
        refine Sim.sub (L' := [(0, .ref x0), (2, .int x2), (3, .int b18), (4, .int u9), (5, .int (a8.2.2 + 1))]) [2, 3, 4, 1, 0] rfl ?_
        exact Sim.ret (hn _ _)
  · intro b8 s10
    show Sim X (xI) (retC X eI xI) 65 [(3, .int b8)] [] s10 _
    refine s_iload_n O 0 rfl rfl dX0_numberOf_65 ?_
    exact s_ireturn O hr rfl dX0_numberOf_66
theorem mt_X0_numberOf (l : Launch) (G : XG) (hfl : l.stackTraces = false) (hg : G.2.2.2.2 = zAll G.1.1 G.1.2.2.2 G.2.2.2.1) (x0 : Nat) (x1 : Int32) (x2 : Int32) (s t : XS) (v : Int32) (h : x0_numberOf x0 x1 x2 s = some (v, t)) : xMet l yX0_numberOf (ws_ yX0_numberOf cX0_numberOf 7 (some .int)) 2 41 G (xI s) [.ref x0, .int x1, .int x2] (eI v) (xI t) :=
  xMet_of (E := xI) (enc := eI) (by decide +kernel) (Nat.le_of_ble_eq_true rfl) (fun X hl hG O hr hm => by subst hl; subst hG; exact wk_X0_numberOf O hfl hg hr hm x0 x1 x2 s) h
theorem hd_X5_number : yX5_number.cls ≠ "java/lang/invoke/MethodHandle" ∧ yX5_number.cls ≠ "java/lang/invoke/VarHandle" ∧ (parseMethodDescriptor yX5_number.desc).map (fun d => d.parameters.length) = some 1 := by decide +kernel
theorem hv_X5_number : yX5_number.cls = RX5 ∧ yX5_number.cls ≠ "java/lang/invoke/MethodHandle" ∧ yX5_number.cls ≠ "java/lang/invoke/VarHandle" ∧ (parseMethodDescriptor yX5_number.desc).map (fun d => d.parameters.length) = some 1 := ⟨rfl, hd_X5_number⟩
theorem hu_X5_number : yX5_number.name ≠ "<init>" ∧ (parseMethodDescriptor yX5_number.desc).map (fun d => d.parameters.length) = some 1 := ⟨by decide +kernel, hd_X5_number.2.2⟩
set_option maxHeartbeats 4000000 in
set_option maxRecDepth 100000 in
theorem wk_X5_number {X : XC} (O : XOk X cX5_number RX5 3 67) (hfl : (xL X).stackTraces = false) (hg : (xG X).2.2.2.2 = zAll (xG X).1.1 (xG X).1.2.2.2 (xG X).2.2.2.1) (hr : (xMeth X).sig.returnType = (some .int)) (hm : (xC X).maxLocals = 2) (o : Nat) (x1 : Int32) (s : XS) : Sim X xI (retC X eI xI) 0 [(0, .ref o), (1, .int x1)] [] s (x5_number o x1 s) := by
  have hzz := O.hst
  rw [hg] at hzz
  unfold x5_number
  refine s_aload_n O 0 rfl rfl dX5_number_0 ?_
  refine x_get O (ci := 5) (T := TX5) (N := 2) in_X5 rfl 0 (by decide) q706 (fun _ h => h) dX5_number_1 (fun v0 => ?_)
  refine s_vR (fun r1 => ?_)
  refine s_aload_n O 0 rfl rfl dX5_number_4 ?_
  refine x_get O (ci := 5) (T := TX5) (N := 2) in_X5 rfl 1 (by decide) q709 (fun _ h => h) dX5_number_5 (fun v0 => ?_)
  refine s_vI (fun u2 => ?_)
  refine s_iload_n O 1 rfl rfl dX5_number_8 ?_
  refine s_dr (fun p3 hp4 => ?_)
  subst hp4
  refine x_callSN O (enc2 := eI) (av := [.ref p3, .int u2, .int x1]) (rest := []) 3 (fun v0 t0 h0 => mt_X0_numberOf (xL X) (xG X) hfl hg p3 u2 x1 _ t0 v0 h0) q968 (zm_q966 hzz) q131 q967 hd_X0_numberOf ⟨Nat.le_of_ble_eq_true rfl, Nat.le_of_ble_eq_true rfl⟩ rfl (Nat.le_of_ble_eq_true rfl) dX5_number_9 (fun v5 s6 => ?_)
  exact s_ireturn O hr rfl dX5_number_12
theorem mt_X5_number (l : Launch) (G : XG) (hfl : l.stackTraces = false) (hg : G.2.2.2.2 = zAll G.1.1 G.1.2.2.2 G.2.2.2.1) (o : Nat) (x1 : Int32) (s t : XS) (v : Int32) (h : x5_number o x1 s = some (v, t)) : xMet l yX5_number (ws_ yX5_number cX5_number 2 (some .int)) 3 67 G (xI s) [.ref o, .int x1] (eI v) (xI t) :=
  xMet_of (E := xI) (enc := eI) (by decide +kernel) (Nat.le_of_ble_eq_true rfl) (fun X hl hG O hr hm => by subst hl; subst hG; exact wk_X5_number O hfl hg hr hm o x1 s) h
theorem hd_X0_number : yX0_number.cls ≠ "java/lang/invoke/MethodHandle" ∧ yX0_number.cls ≠ "java/lang/invoke/VarHandle" ∧ (parseMethodDescriptor yX0_number.desc).map (fun d => d.parameters.length) = some 4 := by decide +kernel
theorem hv_X0_number : yX0_number.cls = RX0 ∧ yX0_number.cls ≠ "java/lang/invoke/MethodHandle" ∧ yX0_number.cls ≠ "java/lang/invoke/VarHandle" ∧ (parseMethodDescriptor yX0_number.desc).map (fun d => d.parameters.length) = some 4 := ⟨rfl, hd_X0_number⟩
theorem hu_X0_number : yX0_number.name ≠ "<init>" ∧ (parseMethodDescriptor yX0_number.desc).map (fun d => d.parameters.length) = some 4 := ⟨by decide +kernel, hd_X0_number.2.2⟩
set_option maxHeartbeats 4000000 in
set_option maxRecDepth 100000 in
theorem wk_X0_number {X : XC} (O : XOk X cX0_number RX0 4 88) (hfl : (xL X).stackTraces = false) (hg : (xG X).2.2.2.2 = zAll (xG X).1.1 (xG X).1.2.2.2 (xG X).2.2.2.1) (hr : (xMeth X).sig.returnType = (some .int)) (hm : (xC X).maxLocals = 5) (o : Nat) (x1 : Int32) (x2 : Int32) (x3 : Int32) (x4 : Int32) (s : XS) : Sim X xI (retC X eI xI) 0 [(0, .ref o), (1, .int x1), (2, .int x2), (3, .int x3), (4, .int x4)] [] s (x0_number o x1 x2 x3 x4 s) := by
  have hzz := O.hst
  rw [hg] at hzz
  unfold x0_number
  refine s_aload_n O 0 rfl rfl dX0_number_0 ?_
  refine s_iconst O (x := 4) (by decide) dX0_number_1 ?_
  refine x_newI O q204 dX0_number_2 (fun p1 s2 => ?_)
  refine s_dup O rfl dX0_number_4 ?_
  refine s_iconst O (x := 0) (by decide) dX0_number_5 ?_
  refine s_iload_n O 1 rfl rfl dX0_number_6 ?_
  refine x_iast O dX0_number_7 (fun s3 => ?_)
  refine s_dup O rfl dX0_number_8 ?_
  refine s_iconst O (x := 1) (by decide) dX0_number_9 ?_
  refine s_iload_n O 2 rfl rfl dX0_number_10 ?_
  refine x_iast O dX0_number_11 (fun s4 => ?_)
  refine s_dup O rfl dX0_number_12 ?_
  refine s_iconst O (x := 2) (by decide) dX0_number_13 ?_
  refine s_iload_n O 3 rfl rfl dX0_number_14 ?_
  refine x_iast O dX0_number_15 (fun s5 => ?_)
  refine s_dup O rfl dX0_number_16 ?_
  refine s_iconst O (x := 3) (by decide) dX0_number_17 ?_
  refine s_iload O 4 rfl dX0_number_18 ?_
  refine x_iast O dX0_number_20 (fun s6 => ?_)
  refine x_callV O (enc2 := eI) (ci := 0) (av := [.ref p1]) (rest := []) 1 (fun v0 t0 h0 => mt_X0_arePowers (xL X) (xG X) hfl hg o p1 _ t0 v0 h0) (lw_V q957 q959 qs26 q131 q960) hv_X0_arePowers ⟨Nat.le_of_ble_eq_true rfl, Nat.le_of_ble_eq_true rfl⟩ rfl rfl (Nat.le_of_ble_eq_true rfl) dX0_number_21 (fun v7 s8 => ?_)
  refine s_if_eq O (tgt := 67) dX0_number_24 (by decide) ?_ ?_
  · refine s_iconst O (x := (-1)) (by decide) dX0_number_67 ?_
    exact s_ireturn O hr rfl dX0_number_68
  · refine x_new O (ci := 5) (T := TX5) (N := 2) (fs := dfX5) in_X5 tyX5 tyX5_ok rfl 2 q945 q701 q151 rfl dfX5_ok dX0_number_27 (fun p9 s10 => ?_)
    refine s_dup O rfl dX0_number_30 ?_
    refine s_iconst O (x := 4) (by decide) dX0_number_31 ?_
    refine x_newI O q204 dX0_number_32 (fun p11 s12 => ?_)
    refine s_dup O rfl dX0_number_34 ?_
    refine s_iconst O (x := 0) (by decide) dX0_number_35 ?_
    refine s_iload_n O 1 rfl rfl dX0_number_36 ?_
    refine x_iast O dX0_number_37 (fun s13 => ?_)
    refine s_dup O rfl dX0_number_38 ?_
    refine s_iconst O (x := 1) (by decide) dX0_number_39 ?_
    refine s_iload_n O 2 rfl rfl dX0_number_40 ?_
    refine x_iast O dX0_number_41 (fun s14 => ?_)
    refine s_dup O rfl dX0_number_42 ?_
    refine s_iconst O (x := 2) (by decide) dX0_number_43 ?_
    refine s_iload_n O 3 rfl rfl dX0_number_44 ?_
    refine x_iast O dX0_number_45 (fun s15 => ?_)
    refine s_dup O rfl dX0_number_46 ?_
    refine s_iconst O (x := 3) (by decide) dX0_number_47 ?_
    refine s_iload O 4 rfl dX0_number_48 ?_
    refine x_iast O dX0_number_50 (fun s16 => ?_)
    refine x_callI O (enc2 := eU) (av := [.ref p11]) (rest := [.ref p9]) 1 (fun v0 t0 h0 => mt_X5_init (xL X) (xG X) hfl hg p9 p11 _ t0 v0 h0) q704 q151 q961 q703 rfl hd_X5_init ⟨Nat.le_of_ble_eq_true rfl, Nat.le_of_ble_eq_true rfl⟩ rfl (Nat.le_of_ble_eq_true rfl) dX0_number_51 (fun v17 s18 => ?_)
    refine s_aload_n O 0 rfl rfl dX0_number_54 ?_
    refine x_get O (ci := 0) (T := TX0) (N := 20) in_X0 rfl 3 (by decide) q234 (fun _ h => h) dX0_number_55 (fun v0 => ?_)
    refine s_vR (fun r19 => ?_)
    refine s_dr (fun p20 hp21 => ?_)
    subst hp21
    refine x_getN O (ci := 1) (T := TX1) (N := 6) in_X1 rfl 0 (by decide) (zf_q206 hzz) (fun _ h => h) dX0_number_58 (fun v0 => ?_)
    refine s_vI (fun u22 => ?_)
    refine x_callV O (enc2 := eI) (ci := 5) (av := [.int u22]) (rest := []) 1 (fun v0 t0 h0 => mt_X5_number (xL X) (xG X) hfl hg p9 u22 _ t0 v0 h0) (lw_V q962 q963 q964 q151 q965) hv_X5_number ⟨Nat.le_of_ble_eq_true rfl, Nat.le_of_ble_eq_true rfl⟩ rfl rfl (Nat.le_of_ble_eq_true rfl) dX0_number_61 (fun v23 s24 => ?_)
    refine s_goto O (tgt := 68) dX0_number_64 (by decide) ?_
    exact s_ireturn O hr rfl dX0_number_68
theorem mt_X0_number (l : Launch) (G : XG) (hfl : l.stackTraces = false) (hg : G.2.2.2.2 = zAll G.1.1 G.1.2.2.2 G.2.2.2.1) (o : Nat) (x1 : Int32) (x2 : Int32) (x3 : Int32) (x4 : Int32) (s t : XS) (v : Int32) (h : x0_number o x1 x2 x3 x4 s = some (v, t)) : xMet l yX0_number (ws_ yX0_number cX0_number 5 (some .int)) 4 88 G (xI s) [.ref o, .int x1, .int x2, .int x3, .int x4] (eI v) (xI t) :=
  xMet_of (E := xI) (enc := eI) (by decide +kernel) (Nat.le_of_ble_eq_true rfl) (fun X hl hG O hr hm => by subst hl; subst hG; exact wk_X0_number O hfl hg hr hm o x1 x2 x3 x4 s) h
theorem hd_X0_generator : yX0_generator.cls ≠ "java/lang/invoke/MethodHandle" ∧ yX0_generator.cls ≠ "java/lang/invoke/VarHandle" ∧ (parseMethodDescriptor yX0_generator.desc).map (fun d => d.parameters.length) = some 2 := by decide +kernel
theorem hv_X0_generator : yX0_generator.cls = RX0 ∧ yX0_generator.cls ≠ "java/lang/invoke/MethodHandle" ∧ yX0_generator.cls ≠ "java/lang/invoke/VarHandle" ∧ (parseMethodDescriptor yX0_generator.desc).map (fun d => d.parameters.length) = some 2 := ⟨rfl, hd_X0_generator⟩
theorem hu_X0_generator : yX0_generator.name ≠ "<init>" ∧ (parseMethodDescriptor yX0_generator.desc).map (fun d => d.parameters.length) = some 2 := ⟨by decide +kernel, hd_X0_generator.2.2⟩
set_option maxHeartbeats 4000000 in
set_option maxRecDepth 100000 in
theorem wk_X0_generator {X : XC} (O : XOk X cX0_generator RX0 4 88) (hfl : (xL X).stackTraces = false) (hg : (xG X).2.2.2.2 = zAll (xG X).1.1 (xG X).1.2.2.2 (xG X).2.2.2.1) (hr : (xMeth X).sig.returnType = (some .int)) (hm : (xC X).maxLocals = 4) (o : Nat) (x1 : Int32) (x2 : Int32) (s : XS) : Sim X xI (retC X eI xI) 0 [(0, .ref o), (1, .int x1), (2, .int x2)] [] s (x0_generator o x1 x2 s) := by
  have hzz := O.hst
  rw [hg] at hzz
  unfold x0_generator
  refine s_iload_n O 1 rfl rfl dX0_generator_0 ?_
  refine s_i2l O dX0_generator_1 ?_
  refine s_lconst O (x := 0) (by decide) dX0_generator_2 ?_
  refine s_aload_n O 0 rfl rfl dX0_generator_3 ?_
  refine x_get O (ci := 0) (T := TX0) (N := 20) in_X0 rfl 3 (by decide) q234 (fun _ h => h) dX0_generator_4 (fun v0 => ?_)
  refine s_vR (fun r1 => ?_)
  refine s_dr (fun p2 hp3 => ?_)
  subst hp3
  refine x_getN O (ci := 1) (T := TX1) (N := 6) in_X1 rfl 1 (by decide) (zf_q208 hzz) (fun _ h => h) dX0_generator_7 (fun v0 => ?_)
  refine s_vR (fun r4 => ?_)
  refine s_dr (fun p5 hp6 => ?_)
  subst hp6
  refine x_callF O (enc2 := eI) (ci := 7) (av := []) (rest := [.long 0, .long x1.toInt64]) 0 (fun v0 t0 h0 => mt_J2_size (xL X) (xG X) hfl hg p5 _ t0 v0 h0) (lw_F q897 q695 q697 q135 q699) (zw_0 hzz) hf_J2_size ⟨Nat.le_of_ble_eq_true rfl, Nat.le_of_ble_eq_true rfl⟩ rfl rfl (Nat.le_of_ble_eq_true rfl) dX0_generator_10 (fun v7 s8 => ?_)
  refine s_iconst O (x := 1) (by decide) dX0_generator_15 ?_
  refine s_isub O dX0_generator_16 ?_
  refine s_i2l O dX0_generator_17 ?_
  refine s_callP O (enc2 := eI) (av := [.long x1.toInt64, .long 0, .long ((v7 - 1).toInt64)]) (rest := []) 3 (fun v0 h0 => mt_X0_isIn (xL X) (xG X) _ x1.toInt64 0 ((v7 - 1).toInt64) v0 h0) (lw_S q317 q318 q131 q319) hd_X0_isIn ⟨Nat.le_of_ble_eq_true rfl, Nat.le_of_ble_eq_true rfl⟩ rfl (Nat.le_of_ble_eq_true rfl) dX0_generator_18 (fun v9 => ?_)
  refine s_if_eq O (tgt := 34) dX0_generator_21 (by decide) ?_ ?_
  · refine s_iconst O (x := (-1)) (by decide) dX0_generator_34 ?_
    exact s_ireturn O hr rfl dX0_generator_35
  · refine s_iload_n O 2 rfl rfl dX0_generator_24 ?_
    refine s_i2l O dX0_generator_25 ?_
    refine s_lconst O (x := 0) (by decide) dX0_generator_26 ?_
    refine s_lconst O (x := 1) (by decide) dX0_generator_27 ?_
    refine s_callP O (enc2 := eI) (av := [.long x2.toInt64, .long 0, .long 1]) (rest := []) 3 (fun v0 h0 => mt_X0_isIn (xL X) (xG X) _ x2.toInt64 0 1 v0 h0) (lw_S q317 q318 q131 q319) hd_X0_isIn ⟨Nat.le_of_ble_eq_true rfl, Nat.le_of_ble_eq_true rfl⟩ rfl (Nat.le_of_ble_eq_true rfl) dX0_generator_28 (fun v11 => ?_)
    refine s_if_ne O (tgt := 36) dX0_generator_31 (by decide) ?_ ?_
    · refine s_aload_n O 0 rfl rfl dX0_generator_36 ?_
      refine x_get O (ci := 0) (T := TX0) (N := 20) in_X0 rfl 3 (by decide) q234 (fun _ h => h) dX0_generator_37 (fun v0 => ?_)
      refine s_vR (fun r13 => ?_)
      refine s_dr (fun p14 hp15 => ?_)
      subst hp15
      refine x_getN O (ci := 1) (T := TX1) (N := 6) in_X1 rfl 1 (by decide) (zf_q208 hzz) (fun _ h => h) dX0_generator_40 (fun v0 => ?_)
      refine s_vR (fun r16 => ?_)
      refine s_iload_n O 1 rfl rfl dX0_generator_43 ?_
      refine s_dr (fun p17 hp18 => ?_)
      subst hp18
      refine x_callF O (enc2 := eR) (ci := 7) (av := [.int x1]) (rest := []) 1 (fun v0 t0 h0 => mt_J2_get (xL X) (xG X) hfl hg p17 x1 _ t0 v0 h0) (lw_F q974 q844 q846 q135 q848) (zw_3 hzz) hf_J2_get ⟨Nat.le_of_ble_eq_true rfl, Nat.le_of_ble_eq_true rfl⟩ rfl rfl (Nat.le_of_ble_eq_true rfl) dX0_generator_44 (fun r19 s20 => ?_)
      refine s_dr (fun p21 hp22 => ?_)
      subst hp22
      refine x_cast O (ci := 5) rfl q945 dX0_generator_49 ?_
      refine s_astore_n O (L' := [(3, .ref p21), (0, .ref o), (1, .int x1), (2, .int x2)]) hm (by decide) rfl rfl dX0_generator_52 ?_
      refine s_iload_n O 3 rfl rfl dX0_generator_53 ?_
      refine s_if_ne O (tgt := 64) dX0_generator_54 (by decide) ?_ ?_
      · refine s_aload_n O 0 rfl rfl dX0_generator_64 ?_
        refine s_aload_n O 1 rfl rfl dX0_generator_65 ?_
        refine x_get O (ci := 0) (T := TX0) (N := 20) in_X0 rfl 3 (by decide) q234 (fun _ h => h) dX0_generator_66 (fun v0 => ?_)
        refine s_vR (fun r23 => ?_)
        refine s_dr (fun p24 hp25 => ?_)
        subst hp25
        refine x_getN O (ci := 1) (T := TX1) (N := 6) in_X1 rfl 0 (by decide) (zf_q206 hzz) (fun _ h => h) dX0_generator_69 (fun v0 => ?_)
        refine s_vI (fun u26 => ?_)
        refine x_callV O (enc2 := eI) (ci := 5) (av := [.int u26]) (rest := []) 1 (fun v0 t0 h0 => mt_X5_number (xL X) (xG X) hfl hg p21 u26 _ t0 v0 h0) (lw_V q962 q963 q964 q151 q965) hv_X5_number ⟨Nat.le_of_ble_eq_true rfl, Nat.le_of_ble_eq_true rfl⟩ rfl rfl (Nat.le_of_ble_eq_true rfl) dX0_generator_72 (fun v27 s28 => ?_)
        exact s_ireturn O hr rfl dX0_generator_75
      · refine s_aload_n O 0 rfl rfl dX0_generator_57 ?_
        refine x_getN O (ci := 5) (T := TX5) (N := 2) in_X5 rfl 1 (by decide) (zf_q711 hzz) (fun _ h => h) dX0_generator_58 (fun v0 => ?_)
        refine s_vI (fun u29 => ?_)
        refine s_goto O (tgt := 75) dX0_generator_61 (by decide) ?_
        exact s_ireturn O hr rfl dX0_generator_75
    · refine s_iconst O (x := (-1)) (by decide) dX0_generator_34 ?_
      exact s_ireturn O hr rfl dX0_generator_35
theorem mt_X0_generator (l : Launch) (G : XG) (hfl : l.stackTraces = false) (hg : G.2.2.2.2 = zAll G.1.1 G.1.2.2.2 G.2.2.2.1) (o : Nat) (x1 : Int32) (x2 : Int32) (s t : XS) (v : Int32) (h : x0_generator o x1 x2 s = some (v, t)) : xMet l yX0_generator (ws_ yX0_generator cX0_generator 4 (some .int)) 4 88 G (xI s) [.ref o, .int x1, .int x2] (eI v) (xI t) :=
  xMet_of (E := xI) (enc := eI) (by decide +kernel) (Nat.le_of_ble_eq_true rfl) (fun X hl hG O hr hm => by subst hl; subst hG; exact wk_X0_generator O hfl hg hr hm o x1 x2 s) h
theorem hd_X0_in : yX0_in.cls ≠ "java/lang/invoke/MethodHandle" ∧ yX0_in.cls ≠ "java/lang/invoke/VarHandle" ∧ (parseMethodDescriptor yX0_in.desc).map (fun d => d.parameters.length) = some 2 := by decide +kernel
theorem hv_X0_in : yX0_in.cls = RX0 ∧ yX0_in.cls ≠ "java/lang/invoke/MethodHandle" ∧ yX0_in.cls ≠ "java/lang/invoke/VarHandle" ∧ (parseMethodDescriptor yX0_in.desc).map (fun d => d.parameters.length) = some 2 := ⟨rfl, hd_X0_in⟩
theorem hu_X0_in : yX0_in.name ≠ "<init>" ∧ (parseMethodDescriptor yX0_in.desc).map (fun d => d.parameters.length) = some 2 := ⟨by decide +kernel, hd_X0_in.2.2⟩
set_option maxHeartbeats 4000000 in
set_option maxRecDepth 100000 in
theorem wk_X0_in {X : XC} (O : XOk X cX0_in RX0 5 113) (hfl : (xL X).stackTraces = false) (hg : (xG X).2.2.2.2 = zAll (xG X).1.1 (xG X).1.2.2.2 (xG X).2.2.2.1) (hr : (xMeth X).sig.returnType = (some .int)) (hm : (xC X).maxLocals = 3) (o : Nat) (x1 : Int32) (x2 : Int32) (s : XS) : Sim X xI (retC X eI xI) 0 [(0, .ref o), (1, .int x1), (2, .int x2)] [] s (x0_in o x1 x2 s) := by
  have hzz := O.hst
  rw [hg] at hzz
  unfold x0_in
  refine s_aload_n O 0 rfl rfl dX0_in_0 ?_
  refine s_iload_n O 1 rfl rfl dX0_in_1 ?_
  refine s_iload_n O 2 rfl rfl dX0_in_2 ?_
  refine x_callV O (enc2 := eI) (ci := 0) (av := [.int x1, .int x2]) (rest := []) 2 (fun v0 t0 h0 => mt_X0_isMono (xL X) (xG X) hfl hg o x1 x2 _ t0 v0 h0) (lw_V q937 q939 qs24 q131 q940) hv_X0_isMono ⟨Nat.le_of_ble_eq_true rfl, Nat.le_of_ble_eq_true rfl⟩ rfl rfl (Nat.le_of_ble_eq_true rfl) dX0_in_3 (fun v1 s2 => ?_)
  refine s_if_eq O (tgt := 31) dX0_in_6 (by decide) ?_ ?_
  · refine s_iconst O (x := (-1)) (by decide) dX0_in_31 ?_
    exact s_ireturn O hr rfl dX0_in_32
  · refine s_aload_n O 0 rfl rfl dX0_in_9 ?_
    refine x_get O (ci := 0) (T := TX0) (N := 20) in_X0 rfl 3 (by decide) q234 (fun _ h => h) dX0_in_10 (fun v0 => ?_)
    refine s_vR (fun r3 => ?_)
    refine s_aload_n O 0 rfl rfl dX0_in_13 ?_
    refine s_iload_n O 1 rfl rfl dX0_in_14 ?_
    refine s_iload_n O 2 rfl rfl dX0_in_15 ?_
    refine x_callV O (enc2 := eR) (ci := 0) (av := [.int x1, .int x2]) (rest := [va_rf r3]) 2 (fun v0 t0 h0 => mt_X0_mono (xL X) (xG X) hfl hg o x1 x2 _ t0 v0 h0) (lw_V q941 q943 qs25 q131 q944) hv_X0_mono ⟨Nat.le_of_ble_eq_true rfl, Nat.le_of_ble_eq_true rfl⟩ rfl rfl (by generalize r3 = zq0; cases zq0 <;> exact Nat.le_of_ble_eq_true rfl) dX0_in_16 (fun r4 s5 => ?_)
    refine s_dr (fun p6 hp7 => ?_)
    subst hp7
    refine x_getN O (ci := 5) (T := TX5) (N := 2) in_X5 rfl 0 (by decide) (zf_q708 hzz) (fun _ h => h) dX0_in_19 (fun v0 => ?_)
    refine s_vR (fun r8 => ?_)
    refine s_dr (fun p9 hp10 => ?_)
    subst hp10
    refine s_dr (fun p11 hp12 => ?_)
    subst hp12
    refine x_callV O (enc2 := eI) (ci := 1) (av := [.ref p9]) (rest := []) 1 (fun v0 t0 h0 => mt_X1_covers (xL X) (xG X) hfl hg p11 p9 _ t0 v0 h0) (lw_V q979 q835 q836 q132 q837) hv_X1_covers ⟨Nat.le_of_ble_eq_true rfl, Nat.le_of_ble_eq_true rfl⟩ rfl rfl (Nat.le_of_ble_eq_true rfl) dX0_in_22 (fun v13 s14 => ?_)
    refine s_callP O (enc2 := eI) (av := [.int v13]) (rest := []) 1 (fun v0 h0 => mt_X0_flag (xL X) (xG X) _ v13 v0 h0) (lw_S q913 q914 q131 q915) hd_X0_flag ⟨Nat.le_of_ble_eq_true rfl, Nat.le_of_ble_eq_true rfl⟩ rfl (Nat.le_of_ble_eq_true rfl) dX0_in_25 (fun v15 => ?_)
    refine s_goto O (tgt := 32) dX0_in_28 (by decide) ?_
    exact s_ireturn O hr rfl dX0_in_32
theorem mt_X0_in (l : Launch) (G : XG) (hfl : l.stackTraces = false) (hg : G.2.2.2.2 = zAll G.1.1 G.1.2.2.2 G.2.2.2.1) (o : Nat) (x1 : Int32) (x2 : Int32) (s t : XS) (v : Int32) (h : x0_in o x1 x2 s = some (v, t)) : xMet l yX0_in (ws_ yX0_in cX0_in 3 (some .int)) 5 113 G (xI s) [.ref o, .int x1, .int x2] (eI v) (xI t) :=
  xMet_of (E := xI) (enc := eI) (by decide +kernel) (Nat.le_of_ble_eq_true rfl) (fun X hl hG O hr hm => by subst hl; subst hG; exact wk_X0_in O hfl hg hr hm o x1 x2 s) h
theorem hd_X1_size : yX1_size.cls ≠ "java/lang/invoke/MethodHandle" ∧ yX1_size.cls ≠ "java/lang/invoke/VarHandle" ∧ (parseMethodDescriptor yX1_size.desc).map (fun d => d.parameters.length) = some 1 := by decide +kernel
theorem hv_X1_size : yX1_size.cls = RX1 ∧ yX1_size.cls ≠ "java/lang/invoke/MethodHandle" ∧ yX1_size.cls ≠ "java/lang/invoke/VarHandle" ∧ (parseMethodDescriptor yX1_size.desc).map (fun d => d.parameters.length) = some 1 := ⟨rfl, hd_X1_size⟩
theorem hu_X1_size : yX1_size.name ≠ "<init>" ∧ (parseMethodDescriptor yX1_size.desc).map (fun d => d.parameters.length) = some 1 := ⟨by decide +kernel, hd_X1_size.2.2⟩
set_option maxHeartbeats 4000000 in
set_option maxRecDepth 100000 in
theorem wk_X1_size {X : XC} (O : XOk X cX1_size RX1 0 0) (hfl : (xL X).stackTraces = false) (hg : (xG X).2.2.2.2 = zAll (xG X).1.1 (xG X).1.2.2.2 (xG X).2.2.2.1) (hr : (xMeth X).sig.returnType = (some .int)) (hm : (xC X).maxLocals = 3) (o : Nat) (x1 : Int32) (s : XS) : Sim X xI (retC X eI xI) 0 [(0, .ref o), (1, .int x1)] [] s (x1_size o x1 s) := by
  have hzz := O.hst
  rw [hg] at hzz
  unfold x1_size
  refine s_aload_n O 0 rfl rfl dX1_size_0 ?_
  refine x_get O (ci := 1) (T := TX1) (N := 6) in_X1 rfl 3 (by decide) q211 (fun _ h => h) dX1_size_1 (fun v0 => ?_)
  refine s_vR (fun r1 => ?_)
  refine s_ifnonnull O (tgt := 47) dX1_size_4 (by decide) (fun p2 hr0 => ?_) (fun hr0 => ?_)
  · subst hr0
    refine s_aload_n O 0 rfl rfl dX1_size_47 ?_
    refine x_get O (ci := 1) (T := TX1) (N := 6) in_X1 rfl 3 (by decide) q211 (fun _ h => h) dX1_size_48 (fun v0 => ?_)
    refine s_vR (fun r13 => ?_)
    refine s_iload_n O 1 rfl rfl dX1_size_51 ?_
    refine s_dr (fun p14 hp15 => ?_)
    subst hp15
    refine x_iald O dX1_size_52 (fun u16 => ?_)
    exact s_ireturn O hr rfl dX1_size_53
  · subst hr0
    refine s_aload_n O 0 rfl rfl dX1_size_7 ?_
    refine s_bipush O (x := 41) (by decide) dX1_size_8 ?_
    refine x_newI O q204 dX1_size_10 (fun p3 s4 => ?_)
    refine x_put O (ci := 1) (T := TX1) (N := 6) (ty := (.array .int)) in_X1 tyX1 tyX1_ok nmX1 rfl 3 (by decide) q211 (fun _ h => h) rfl (by decide +kernel) rfl rfl dX1_size_12 (fun s5 => ?_)
    refine s_iconst O (x := 0) (by decide) dX1_size_15 ?_
    refine s_istore_n O (L' := [(2, .int 0), (0, .ref o), (1, .int x1)]) hm (by decide) rfl rfl dX1_size_16 ?_
    refine Sim.sub (L' := [(0, .ref o), (1, .int x1), (2, .int 0)]) [1, 2, 0] rfl ?_
    refine s_while (A := Int32) (B := Unit) (La := fun a17 => [(0, .ref o), (1, .int x1), (2, .int a17)]) (We := fun b17 s8 => xWX X 47 [(0, .ref o), (1, .int x1)] [] ((xI) s8)) rfl rfl ?_ ?_
    · intro Cl hn he a17 s6
      unfold x1_size_s17
      refine s_iload_n O 2 rfl rfl dX1_size_17 ?_
      refine s_bipush O (x := 40) (by decide) dX1_size_18 ?_
      refine s_icmp_gt O (tgt := 47) dX1_size_20 (by decide) ?_ ?_
      · refine Sim.sub (L' := [(0, .ref o), (1, .int x1)]) [0, 1] rfl ?_
        exact Sim.ret (he _ _)
      · exact Sim.none
    · intro b17 s8
      show Sim X (xI) (retC X eI xI) 47 [(0, .ref o), (1, .int x1)] [] s8 _
      refine s_aload_n O 0 rfl rfl dX1_size_47 ?_
      refine x_get O (ci := 1) (T := TX1) (N := 6) in_X1 rfl 3 (by decide) q211 (fun _ h => h) dX1_size_48 (fun v0 => ?_)
      refine s_vR (fun r9 => ?_)
      refine s_iload_n O 1 rfl rfl dX1_size_51 ?_
      refine s_dr (fun p10 hp11 => ?_)
      subst hp11
      refine x_iald O dX1_size_52 (fun u12 => ?_)
      exact s_ireturn O hr rfl dX1_size_53
theorem mt_X1_size (l : Launch) (G : XG) (hfl : l.stackTraces = false) (hg : G.2.2.2.2 = zAll G.1.1 G.1.2.2.2 G.2.2.2.1) (o : Nat) (x1 : Int32) (s t : XS) (v : Int32) (h : x1_size o x1 s = some (v, t)) : xMet l yX1_size (ws_ yX1_size cX1_size 3 (some .int)) 0 0 G (xI s) [.ref o, .int x1] (eI v) (xI t) :=
  xMet_of (E := xI) (enc := eI) (by decide +kernel) (Nat.le_of_ble_eq_true rfl) (fun X hl hG O hr hm => by subst hl; subst hG; exact wk_X1_size O hfl hg hr hm o x1 s) h
theorem hd_X0_size : yX0_size.cls ≠ "java/lang/invoke/MethodHandle" ∧ yX0_size.cls ≠ "java/lang/invoke/VarHandle" ∧ (parseMethodDescriptor yX0_size.desc).map (fun d => d.parameters.length) = some 1 := by decide +kernel
theorem hv_X0_size : yX0_size.cls = RX0 ∧ yX0_size.cls ≠ "java/lang/invoke/MethodHandle" ∧ yX0_size.cls ≠ "java/lang/invoke/VarHandle" ∧ (parseMethodDescriptor yX0_size.desc).map (fun d => d.parameters.length) = some 1 := ⟨rfl, hd_X0_size⟩
theorem hu_X0_size : yX0_size.name ≠ "<init>" ∧ (parseMethodDescriptor yX0_size.desc).map (fun d => d.parameters.length) = some 1 := ⟨by decide +kernel, hd_X0_size.2.2⟩
set_option maxHeartbeats 4000000 in
set_option maxRecDepth 100000 in
theorem wk_X0_size {X : XC} (O : XOk X cX0_size RX0 2 45) (hfl : (xL X).stackTraces = false) (hg : (xG X).2.2.2.2 = zAll (xG X).1.1 (xG X).1.2.2.2 (xG X).2.2.2.1) (hr : (xMeth X).sig.returnType = (some .int)) (hm : (xC X).maxLocals = 2) (o : Nat) (x1 : Int32) (s : XS) : Sim X xI (retC X eI xI) 0 [(0, .ref o), (1, .int x1)] [] s (x0_size o x1 s) := by
  have hzz := O.hst
  rw [hg] at hzz
  unfold x0_size
  refine s_iload_n O 1 rfl rfl dX0_size_0 ?_
  refine s_callP O (enc2 := eI) (av := [.int x1]) (rest := []) 1 (fun v0 h0 => mt_X0_isDegree (xL X) (xG X) _ x1 v0 h0) (lw_S q920 q921 q131 q922) hd_X0_isDegree ⟨Nat.le_of_ble_eq_true rfl, Nat.le_of_ble_eq_true rfl⟩ rfl (Nat.le_of_ble_eq_true rfl) dX0_size_1 (fun v1 => ?_)
  refine s_if_eq O (tgt := 18) dX0_size_4 (by decide) ?_ ?_
  · refine s_iconst O (x := (-1)) (by decide) dX0_size_18 ?_
    exact s_ireturn O hr rfl dX0_size_19
  · refine s_aload_n O 0 rfl rfl dX0_size_7 ?_
    refine x_get O (ci := 0) (T := TX0) (N := 20) in_X0 rfl 3 (by decide) q234 (fun _ h => h) dX0_size_8 (fun v0 => ?_)
    refine s_vR (fun r3 => ?_)
    refine s_iload_n O 1 rfl rfl dX0_size_11 ?_
    refine s_dr (fun p4 hp5 => ?_)
    subst hp5
    refine x_callV O (enc2 := eI) (ci := 1) (av := [.int x1]) (rest := []) 1 (fun v0 t0 h0 => mt_X1_size (xL X) (xG X) hfl hg p4 x1 _ t0 v0 h0) (lw_V q984 q985 q986 q132 q987) hv_X1_size ⟨Nat.le_of_ble_eq_true rfl, Nat.le_of_ble_eq_true rfl⟩ rfl rfl (Nat.le_of_ble_eq_true rfl) dX0_size_12 (fun v6 s7 => ?_)
    refine s_goto O (tgt := 19) dX0_size_15 (by decide) ?_
    exact s_ireturn O hr rfl dX0_size_19
theorem mt_X0_size (l : Launch) (G : XG) (hfl : l.stackTraces = false) (hg : G.2.2.2.2 = zAll G.1.1 G.1.2.2.2 G.2.2.2.1) (o : Nat) (x1 : Int32) (s t : XS) (v : Int32) (h : x0_size o x1 s = some (v, t)) : xMet l yX0_size (ws_ yX0_size cX0_size 2 (some .int)) 2 45 G (xI s) [.ref o, .int x1] (eI v) (xI t) :=
  xMet_of (E := xI) (enc := eI) (by decide +kernel) (Nat.le_of_ble_eq_true rfl) (fun X hl hG O hr hm => by subst hl; subst hG; exact wk_X0_size O hfl hg hr hm o x1 s) h
theorem hd_X1_numerator : yX1_numerator.cls ≠ "java/lang/invoke/MethodHandle" ∧ yX1_numerator.cls ≠ "java/lang/invoke/VarHandle" ∧ (parseMethodDescriptor yX1_numerator.desc).map (fun d => d.parameters.length) = some 1 := by decide +kernel
theorem hv_X1_numerator : yX1_numerator.cls = RX1 ∧ yX1_numerator.cls ≠ "java/lang/invoke/MethodHandle" ∧ yX1_numerator.cls ≠ "java/lang/invoke/VarHandle" ∧ (parseMethodDescriptor yX1_numerator.desc).map (fun d => d.parameters.length) = some 1 := ⟨rfl, hd_X1_numerator⟩
theorem hu_X1_numerator : yX1_numerator.name ≠ "<init>" ∧ (parseMethodDescriptor yX1_numerator.desc).map (fun d => d.parameters.length) = some 1 := ⟨by decide +kernel, hd_X1_numerator.2.2⟩
set_option maxHeartbeats 4000000 in
set_option maxRecDepth 100000 in
theorem wk_X1_numerator {X : XC} (O : XOk X cX1_numerator RX1 1 22) (hfl : (xL X).stackTraces = false) (hg : (xG X).2.2.2.2 = zAll (xG X).1.1 (xG X).1.2.2.2 (xG X).2.2.2.1) (hr : (xMeth X).sig.returnType = (some .long)) (hm : (xC X).maxLocals = 4) (o : Nat) (x1 : Int32) (s : XS) : Sim X xI (retC X eL xI) 0 [(0, .ref o), (1, .int x1)] [] s (x1_numerator o x1 s) := by
  have hzz := O.hst
  rw [hg] at hzz
  unfold x1_numerator
  refine s_aload_n O 0 rfl rfl dX1_numerator_0 ?_
  refine x_get O (ci := 1) (T := TX1) (N := 6) in_X1 rfl 4 (by decide) q212 (fun _ h => h) dX1_numerator_1 (fun v0 => ?_)
  refine s_vR (fun r1 => ?_)
  refine s_ifnonnull O (tgt := 87) dX1_numerator_4 (by decide) (fun p2 hr0 => ?_) (fun hr0 => ?_)
  · subst hr0
    refine s_aload_n O 0 rfl rfl dX1_numerator_87 ?_
    refine x_get O (ci := 1) (T := TX1) (N := 6) in_X1 rfl 4 (by decide) q212 (fun _ h => h) dX1_numerator_88 (fun v0 => ?_)
    refine s_vR (fun r32 => ?_)
    refine s_iload_n O 1 rfl rfl dX1_numerator_91 ?_
    refine s_dr (fun p33 hp34 => ?_)
    subst hp34
    refine x_lald O dX1_numerator_92 (fun w35 => ?_)
    exact s_lreturn O hr rfl dX1_numerator_93
  · subst hr0
    refine s_aload_n O 0 rfl rfl dX1_numerator_7 ?_
    refine s_bipush O (x := 41) (by decide) dX1_numerator_8 ?_
    refine x_newL O q1015 dX1_numerator_10 (fun p3 s4 => ?_)
    refine x_put O (ci := 1) (T := TX1) (N := 6) (ty := (.array .long)) in_X1 tyX1 tyX1_ok nmX1 rfl 4 (by decide) q212 (fun _ h => h) rfl (by decide +kernel) rfl rfl dX1_numerator_12 (fun s5 => ?_)
    refine s_iconst O (x := 0) (by decide) dX1_numerator_15 ?_
    refine s_istore_n O (L' := [(2, .int 0), (0, .ref o), (1, .int x1)]) hm (by decide) rfl rfl dX1_numerator_16 ?_
    refine Sim.sub (L' := [(0, .ref o), (1, .int x1), (2, .int 0)]) [1, 2, 0] rfl ?_
    refine s_while (A := Int32) (B := Unit) (La := fun a17 => [(0, .ref o), (1, .int x1), (2, .int a17)]) (We := fun b17 s13 => xWX X 41 [(0, .ref o), (1, .int x1)] [] ((xI) s13)) rfl rfl ?_ ?_
    · intro Cl hn he a17 s6
      unfold x1_numerator_s17
      refine s_iload_n O 2 rfl rfl dX1_numerator_17 ?_
      refine s_bipush O (x := 40) (by decide) dX1_numerator_18 ?_
      refine s_icmp_gt O (tgt := 41) dX1_numerator_20 (by decide) ?_ ?_
      · refine Sim.sub (L' := [(0, .ref o), (1, .int x1)]) [0, 1] rfl ?_
        exact Sim.ret (he _ _)
      · refine s_aload_n O 0 rfl rfl dX1_numerator_23 ?_
        refine x_get O (ci := 1) (T := TX1) (N := 6) in_X1 rfl 4 (by decide) q212 (fun _ h => h) dX1_numerator_24 (fun v0 => ?_)
        refine s_vR (fun r7 => ?_)
        refine s_iload_n O 2 rfl rfl dX1_numerator_27 ?_
        refine s_aload_n O 0 rfl rfl dX1_numerator_28 ?_
        refine s_iload_n O 2 rfl rfl dX1_numerator_29 ?_
        refine x_callV O (enc2 := eI) (ci := 1) (av := [.int a17]) (rest := [.int a17, va_rf r7]) 1 (fun v0 t0 h0 => mt_X1_size (xL X) (xG X) hfl hg o a17 _ t0 v0 h0) (lw_V q1013 q985 q986 q132 q987) hv_X1_size ⟨Nat.le_of_ble_eq_true rfl, Nat.le_of_ble_eq_true rfl⟩ rfl rfl (by generalize r7 = zq0; cases zq0 <;> exact Nat.le_of_ble_eq_true rfl) dX1_numerator_30 (fun v8 s9 => ?_)
        refine s_i2l O dX1_numerator_33 ?_
        refine s_dr (fun p10 hp11 => ?_)
        subst hp11
        refine x_last O dX1_numerator_34 (fun s12 => ?_)
        refine s_iinc O (y := (a17 + 1)) (L' := [(2, .int (a17 + 1)), (0, .ref o), (1, .int x1)]) 2 rfl hm (by decide) rfl rfl dX1_numerator_35 ?_
        refine s_goto O (tgt := 17) dX1_numerator_38 (by decide) ?_
        refine Sim.sub (L' := [(0, .ref o), (1, .int x1), (2, .int (a17 + 1))]) [1, 2, 0] rfl ?_
        exact Sim.ret (hn _ _)
    · intro b17 s13
      show Sim X (xI) (retC X eL xI) 41 [(0, .ref o), (1, .int x1)] [] s13 _
      refine s_iconst O (x := 0) (by decide) dX1_numerator_41 ?_
      refine s_istore_n O (L' := [(2, .int 0), (0, .ref o), (1, .int x1)]) hm (by decide) rfl rfl dX1_numerator_42 ?_
      refine Sim.sub (L' := [(0, .ref o), (1, .int x1), (2, .int 0)]) [1, 2, 0] rfl ?_
      refine s_while (A := Int32) (B := Unit) (La := fun a43 => [(0, .ref o), (1, .int x1), (2, .int a43)]) (We := fun b43 s27 => xWX X 87 [(0, .ref o), (1, .int x1)] [] ((xI) s27)) rfl rfl ?_ ?_
      · intro Cl hn he a43 s14
        unfold x1_numerator_s43
        refine s_iload_n O 2 rfl rfl dX1_numerator_43 ?_
        refine s_aload_n O 0 rfl rfl dX1_numerator_44 ?_
        refine x_get O (ci := 1) (T := TX1) (N := 6) in_X1 rfl 0 (by decide) q205 (fun _ h => h) dX1_numerator_45 (fun v0 => ?_)
        refine s_vI (fun u15 => ?_)
        refine s_icmp_ge O (tgt := 87) dX1_numerator_48 (by decide) ?_ ?_
        · refine Sim.sub (L' := [(0, .ref o), (1, .int x1)]) [0, 1] rfl ?_
          exact Sim.ret (he _ _)
        · refine s_bipush O (x := 40) (by decide) dX1_numerator_51 ?_
          refine s_istore_n O (L' := [(3, .int 40), (0, .ref o), (1, .int x1), (2, .int a43)]) hm (by decide) rfl rfl dX1_numerator_53 ?_
          refine Sim.sub (L' := [(0, .ref o), (1, .int x1), (2, .int a43), (3, .int 40)]) [1, 2, 3, 0] rfl ?_
          refine s_while (A := Int32) (B := Unit) (La := fun a54 => [(0, .ref o), (1, .int x1), (2, .int a43), (3, .int a54)]) (We := fun b54 s26 => xWX X 81 [(0, .ref o), (1, .int x1), (2, .int a43)] [] ((xI) s26)) rfl rfl ?_ ?_
          · intro Cl hn he a54 s16
            unfold x1_numerator_s54
            refine s_iload_n O 3 rfl rfl dX1_numerator_54 ?_
            refine s_if_le O (tgt := 81) dX1_numerator_55 (by decide) ?_ ?_
            · refine Sim.sub (L' := [(0, .ref o), (1, .int x1), (2, .int a43)]) [0, 1, 2] rfl ?_
              exact Sim.ret (he _ _)
            · refine s_aload_n O 0 rfl rfl dX1_numerator_58 ?_
              refine x_get O (ci := 1) (T := TX1) (N := 6) in_X1 rfl 4 (by decide) q212 (fun _ h => h) dX1_numerator_59 (fun v0 => ?_)
              refine s_vR (fun r17 => ?_)
              refine s_iload_n O 3 rfl rfl dX1_numerator_62 ?_
              refine s_dup2 O rfl (va_cat _) dX1_numerator_63 ?_
              refine s_dr (fun p18 hp19 => ?_)
              subst hp19
              refine x_lald O dX1_numerator_64 (fun w20 => ?_)
              refine s_aload_n O 0 rfl rfl dX1_numerator_65 ?_
              refine x_get O (ci := 1) (T := TX1) (N := 6) in_X1 rfl 4 (by decide) q212 (fun _ h => h) dX1_numerator_66 (fun v0 => ?_)
              refine s_vR (fun r21 => ?_)
              refine s_iload_n O 3 rfl rfl dX1_numerator_69 ?_
              refine s_iconst O (x := 1) (by decide) dX1_numerator_70 ?_
              refine s_isub O dX1_numerator_71 ?_
              refine s_dr (fun p22 hp23 => ?_)
              subst hp23
              refine x_lald O dX1_numerator_72 (fun w24 => ?_)
              refine s_lsub O dX1_numerator_73 ?_
              refine x_last O dX1_numerator_74 (fun s25 => ?_)
              refine s_iinc O (y := (a54 + (-1))) (L' := [(3, .int (a54 + (-1))), (0, .ref o), (1, .int x1), (2, .int a43)]) 3 rfl hm (by decide) (congrArg (HAdd.hAdd a54) (by decide)) rfl dX1_numerator_75 ?_
              refine s_goto O (tgt := 54) dX1_numerator_78 (by decide) ?_
              refine Sim.sub (L' := [(0, .ref o), (1, .int x1), (2, .int a43), (3, .int (a54 + (-1)))]) [1, 2, 3, 0] rfl ?_
              exact Sim.ret (hn _ _)
          · intro b54 s26
            show Sim X (xI) Cl 81 [(0, .ref o), (1, .int x1), (2, .int a43)] [] s26 _
            refine s_iinc O (y := (a43 + 1)) (L' := [(2, .int (a43 + 1)), (0, .ref o), (1, .int x1)]) 2 rfl hm (by decide) rfl rfl dX1_numerator_81 ?_
            refine s_goto O (tgt := 43) dX1_numerator_84 (by decide) ?_
            refine Sim.sub (L' := [(0, .ref o), (1, .int x1), (2, .int (a43 + 1))]) [1, 2, 0] rfl ?_
            exact Sim.ret (hn _ _)
      · intro b43 s27
        show Sim X (xI) (retC X eL xI) 87 [(0, .ref o), (1, .int x1)] [] s27 _
        refine s_aload_n O 0 rfl rfl dX1_numerator_87 ?_
        refine x_get O (ci := 1) (T := TX1) (N := 6) in_X1 rfl 4 (by decide) q212 (fun _ h => h) dX1_numerator_88 (fun v0 => ?_)
        refine s_vR (fun r28 => ?_)
        refine s_iload_n O 1 rfl rfl dX1_numerator_91 ?_
        refine s_dr (fun p29 hp30 => ?_)
        subst hp30
        refine x_lald O dX1_numerator_92 (fun w31 => ?_)
        exact s_lreturn O hr rfl dX1_numerator_93
theorem mt_X1_numerator (l : Launch) (G : XG) (hfl : l.stackTraces = false) (hg : G.2.2.2.2 = zAll G.1.1 G.1.2.2.2 G.2.2.2.1) (o : Nat) (x1 : Int32) (s t : XS) (v : Int64) (h : x1_numerator o x1 s = some (v, t)) : xMet l yX1_numerator (ws_ yX1_numerator cX1_numerator 4 (some .long)) 1 22 G (xI s) [.ref o, .int x1] (eL v) (xI t) :=
  xMet_of (E := xI) (enc := eL) (by decide +kernel) (Nat.le_of_ble_eq_true rfl) (fun X hl hG O hr hm => by subst hl; subst hG; exact wk_X1_numerator O hfl hg hr hm o x1 s) h
theorem hd_X1_poly : yX1_poly.cls ≠ "java/lang/invoke/MethodHandle" ∧ yX1_poly.cls ≠ "java/lang/invoke/VarHandle" ∧ (parseMethodDescriptor yX1_poly.desc).map (fun d => d.parameters.length) = some 1 := by decide +kernel
theorem hv_X1_poly : yX1_poly.cls = RX1 ∧ yX1_poly.cls ≠ "java/lang/invoke/MethodHandle" ∧ yX1_poly.cls ≠ "java/lang/invoke/VarHandle" ∧ (parseMethodDescriptor yX1_poly.desc).map (fun d => d.parameters.length) = some 1 := ⟨rfl, hd_X1_poly⟩
theorem hu_X1_poly : yX1_poly.name ≠ "<init>" ∧ (parseMethodDescriptor yX1_poly.desc).map (fun d => d.parameters.length) = some 1 := ⟨by decide +kernel, hd_X1_poly.2.2⟩
set_option maxHeartbeats 4000000 in
set_option maxRecDepth 100000 in
theorem wk_X1_poly {X : XC} (O : XOk X cX1_poly RX1 2 45) (hfl : (xL X).stackTraces = false) (hg : (xG X).2.2.2.2 = zAll (xG X).1.1 (xG X).1.2.2.2 (xG X).2.2.2.1) (hr : (xMeth X).sig.returnType = (some .long)) (hm : (xC X).maxLocals = 8) (o : Nat) (x1 : Int32) (s : XS) : Sim X xI (retC X eL xI) 0 [(0, .ref o), (1, .int x1)] [] s (x1_poly o x1 s) := by
  have hzz := O.hst
  rw [hg] at hzz
  unfold x1_poly
  refine s_lconst O (x := 0) (by decide) dX1_poly_0 ?_
  refine s_lstore_n O (L' := [(2, .long 0), (0, .ref o), (1, .int x1)]) hm (by decide) rfl rfl dX1_poly_1 ?_
  refine s_iconst O (x := 0) (by decide) dX1_poly_2 ?_
  refine s_istore O (L' := [(4, .int 0), (2, .long 0), (0, .ref o), (1, .int x1)]) hm (by decide) rfl dX1_poly_3 ?_
  refine Sim.sub (L' := [(0, .ref o), (1, .int x1), (2, .long 0), (4, .int 0)]) [2, 3, 1, 0] rfl ?_
  refine s_while (A := Int64 × Int32) (B := Int64) (La := fun a5 => [(0, .ref o), (1, .int x1), (2, .long a5.1), (4, .int a5.2)]) (We := fun b5 s15 => xWX X 104 [(2, .long b5)] [] ((xI) s15)) rfl rfl ?_ ?_
  · intro Cl hn he a5 s1
    unfold x1_poly_s5
    refine s_iload O 3 rfl dX1_poly_5 ?_
    refine s_bipush O (x := 40) (by decide) dX1_poly_7 ?_
    refine s_icmp_gt O (tgt := 104) dX1_poly_9 (by decide) ?_ ?_
    · refine Sim.sub (L' := [(2, .long a5.1)]) [2] rfl ?_
      exact Sim.ret (he _ _)
    · refine s_aload_n O 0 rfl rfl dX1_poly_12 ?_
      refine s_iload O 3 rfl dX1_poly_13 ?_
      refine x_callV O (enc2 := eL) (ci := 1) (av := [.int a5.2]) (rest := []) 1 (fun v0 t0 h0 => mt_X1_numerator (xL X) (xG X) hfl hg o a5.2 _ t0 v0 h0) (lw_V q1009 q1010 q1011 q132 q1012) hv_X1_numerator ⟨Nat.le_of_ble_eq_true rfl, Nat.le_of_ble_eq_true rfl⟩ rfl rfl (Nat.le_of_ble_eq_true rfl) dX1_poly_15 (fun v2 s3 => ?_)
      refine s_lconst O (x := 0) (by decide) dX1_poly_18 ?_
      refine s_lcmp_ne O (tgt := 26) dX1_poly_19 dX1_poly_20 (by decide) ?_ ?_
      · refine s_lconst O (x := 1) (by decide) dX1_poly_26 ?_
        refine s_lstore O (L' := [(5, .long 1), (0, .ref o), (1, .int x1), (2, .long a5.1), (4, .int a5.2)]) hm (by decide) rfl dX1_poly_27 ?_
        refine s_iconst O (x := 1) (by decide) dX1_poly_29 ?_
        refine s_istore O (L' := [(7, .int 1), (5, .long 1), (0, .ref o), (1, .int x1), (2, .long a5.1), (4, .int a5.2)]) hm (by decide) rfl dX1_poly_30 ?_
        refine Sim.sub (L' := [(0, .ref o), (1, .int x1), (2, .long a5.1), (4, .int a5.2), (5, .long 1), (7, .int 1)]) [2, 3, 4, 5, 1, 0] rfl ?_
        refine s_while (A := Int64 × Int32) (B := Int64) (La := fun a32 => [(0, .ref o), (1, .int x1), (2, .long a5.1), (4, .int a5.2), (5, .long a32.1), (7, .int a32.2)]) (We := fun b32 s7 => xWX X 60 [(0, .ref o), (1, .int x1), (2, .long a5.1), (4, .int a5.2), (5, .long b32)] [] ((xI) s7)) rfl rfl ?_ ?_
        · intro Cl hn he a32 s4
          unfold x1_poly_s32
          refine s_iload O 5 rfl dX1_poly_32 ?_
          refine s_aload_n O 0 rfl rfl dX1_poly_34 ?_
          refine x_get O (ci := 1) (T := TX1) (N := 6) in_X1 rfl 0 (by decide) q205 (fun _ h => h) dX1_poly_35 (fun v0 => ?_)
          refine s_vI (fun u5 => ?_)
          refine s_icmp_ge O (tgt := 60) dX1_poly_38 (by decide) ?_ ?_
          · refine Sim.sub (L' := [(0, .ref o), (1, .int x1), (2, .long a5.1), (4, .int a5.2), (5, .long a32.1)]) [0, 1, 2, 3, 4] rfl ?_
            exact Sim.ret (he _ _)
          · refine s_lload O 4 rfl dX1_poly_41 ?_
            refine s_iload_n O 1 rfl rfl dX1_poly_43 ?_
            refine s_iload O 3 rfl dX1_poly_44 ?_
            refine s_isub O dX1_poly_46 ?_
            refine s_iload O 5 rfl dX1_poly_47 ?_
            refine s_iadd O dX1_poly_49 ?_
            refine s_i2l O dX1_poly_50 ?_
            refine s_lmul O dX1_poly_51 ?_
            refine s_nml fun w6 => ?_
            refine s_lstore O (L' := [(5, .long w6), (0, .ref o), (1, .int x1), (2, .long a5.1), (4, .int a5.2), (7, .int a32.2)]) hm (by decide) rfl dX1_poly_52 ?_
            refine s_iinc O (y := (a32.2 + 1)) (L' := [(7, .int (a32.2 + 1)), (5, .long w6), (0, .ref o), (1, .int x1), (2, .long a5.1), (4, .int a5.2)]) 5 rfl hm (by decide) rfl rfl dX1_poly_54 ?_
            refine s_goto O (tgt := 32) dX1_poly_57 (by decide) ?_
            refine Sim.sub (L' := [(0, .ref o), (1, .int x1), (2, .long a5.1), (4, .int a5.2), (5, .long w6), (7, .int (a32.2 + 1))]) [2, 3, 4, 5, 1, 0] rfl ?_
            exact Sim.ret (hn _ _)
        · intro b32 s7
          show Sim X (xI) Cl 60 [(0, .ref o), (1, .int x1), (2, .long a5.1), (4, .int a5.2), (5, .long b32)] [] s7 _
          refine s_iconst O (x := 2) (by decide) dX1_poly_60 ?_
          refine s_istore O (L' := [(7, .int 2), (0, .ref o), (1, .int x1), (2, .long a5.1), (4, .int a5.2), (5, .long b32)]) hm (by decide) rfl dX1_poly_61 ?_
          refine Sim.sub (L' := [(0, .ref o), (1, .int x1), (2, .long a5.1), (4, .int a5.2), (5, .long b32), (7, .int 2)]) [1, 2, 3, 4, 5, 0] rfl ?_
          refine s_while (A := Int64 × Int32) (B := Int64) (La := fun a63 => [(0, .ref o), (1, .int x1), (2, .long a5.1), (4, .int a5.2), (5, .long a63.1), (7, .int a63.2)]) (We := fun b63 s11 => xWX X 86 [(0, .ref o), (1, .int x1), (2, .long a5.1), (4, .int a5.2), (5, .long b63)] [] ((xI) s11)) rfl rfl ?_ ?_
          · intro Cl hn he a63 s8
            unfold x1_poly_s63
            refine s_iload O 5 rfl dX1_poly_63 ?_
            refine s_aload_n O 0 rfl rfl dX1_poly_65 ?_
            refine x_get O (ci := 1) (T := TX1) (N := 6) in_X1 rfl 0 (by decide) q205 (fun _ h => h) dX1_poly_66 (fun v0 => ?_)
            refine s_vI (fun u9 => ?_)
            refine s_icmp_ge O (tgt := 86) dX1_poly_69 (by decide) ?_ ?_
            · refine Sim.sub (L' := [(0, .ref o), (1, .int x1), (2, .long a5.1), (4, .int a5.2), (5, .long a63.1)]) [0, 1, 2, 3, 4] rfl ?_
              exact Sim.ret (he _ _)
            · refine s_lload O 4 rfl dX1_poly_72 ?_
              refine s_iload O 5 rfl dX1_poly_74 ?_
              refine s_i2l O dX1_poly_76 ?_
              refine s_ldiv O dX1_poly_77 ?_
              refine s_nml fun w10 => ?_
              refine s_lstore O (L' := [(5, .long w10), (0, .ref o), (1, .int x1), (2, .long a5.1), (4, .int a5.2), (7, .int a63.2)]) hm (by decide) rfl dX1_poly_78 ?_
              refine s_iinc O (y := (a63.2 + 1)) (L' := [(7, .int (a63.2 + 1)), (5, .long w10), (0, .ref o), (1, .int x1), (2, .long a5.1), (4, .int a5.2)]) 5 rfl hm (by decide) rfl rfl dX1_poly_80 ?_
              refine s_goto O (tgt := 63) dX1_poly_83 (by decide) ?_
              refine Sim.sub (L' := [(0, .ref o), (1, .int x1), (2, .long a5.1), (4, .int a5.2), (5, .long w10), (7, .int (a63.2 + 1))]) [2, 3, 4, 5, 1, 0] rfl ?_
              exact Sim.ret (hn _ _)
          · intro b63 s11
            show Sim X (xI) Cl 86 [(0, .ref o), (1, .int x1), (2, .long a5.1), (4, .int a5.2), (5, .long b63)] [] s11 _
            refine s_lload_n O 2 rfl rfl dX1_poly_86 ?_
            refine s_aload_n O 0 rfl rfl dX1_poly_87 ?_
            refine s_iload O 3 rfl dX1_poly_88 ?_
            refine x_callV O (enc2 := eL) (ci := 1) (av := [.int a5.2]) (rest := [.long a5.1]) 1 (fun v0 t0 h0 => mt_X1_numerator (xL X) (xG X) hfl hg o a5.2 _ t0 v0 h0) (lw_V q1009 q1010 q1011 q132 q1012) hv_X1_numerator ⟨Nat.le_of_ble_eq_true rfl, Nat.le_of_ble_eq_true rfl⟩ rfl rfl (Nat.le_of_ble_eq_true rfl) dX1_poly_90 (fun v12 s13 => ?_)
            refine s_lload O 4 rfl dX1_poly_93 ?_
            refine s_lmul O dX1_poly_95 ?_
            refine s_ladd O dX1_poly_96 ?_
            refine s_nml fun w14 => ?_
            refine s_lstore_n O (L' := [(2, .long w14), (0, .ref o), (1, .int x1), (4, .int a5.2), (5, .long b63)]) hm (by decide) rfl rfl dX1_poly_97 ?_
            refine s_iinc O (y := (a5.2 + 1)) (L' := [(4, .int (a5.2 + 1)), (2, .long w14), (0, .ref o), (1, .int x1), (5, .long b63)]) 3 rfl hm (by decide) rfl rfl dX1_poly_98 ?_
            refine s_goto O (tgt := 5) dX1_poly_101 (by decide) ?_
            refine Sim.sub (L' := [(0, .ref o), (1, .int x1), (2, .long w14), (4, .int (a5.2 + 1))]) [2, 3, 1, 0] rfl ?_
            exact Sim.ret (hn _ _)
      · refine s_goto O (tgt := 98) dX1_poly_23 (by decide) ?_
        refine s_iinc O (y := (a5.2 + 1)) (L' := [(4, .int (a5.2 + 1)), (0, .ref o), (1, .int x1), (2, .long a5.1)]) 3 rfl hm (by decide) rfl rfl dX1_poly_98 ?_
        refine s_goto O (tgt := 5) dX1_poly_101 (by decide) ?_
        refine Sim.sub (L' := [(0, .ref o), (1, .int x1), (2, .long a5.1), (4, .int (a5.2 + 1))]) [1, 2, 3, 0] rfl ?_
        exact Sim.ret (hn _ _)
  · intro b5 s15
    show Sim X (xI) (retC X eL xI) 104 [(2, .long b5)] [] s15 _
    refine s_lload_n O 0 rfl rfl dX1_poly_104 ?_
    exact s_lreturn O hr rfl dX1_poly_105
theorem mt_X1_poly (l : Launch) (G : XG) (hfl : l.stackTraces = false) (hg : G.2.2.2.2 = zAll G.1.1 G.1.2.2.2 G.2.2.2.1) (o : Nat) (x1 : Int32) (s t : XS) (v : Int64) (h : x1_poly o x1 s = some (v, t)) : xMet l yX1_poly (ws_ yX1_poly cX1_poly 8 (some .long)) 2 45 G (xI s) [.ref o, .int x1] (eL v) (xI t) :=
  xMet_of (E := xI) (enc := eL) (by decide +kernel) (Nat.le_of_ble_eq_true rfl) (fun X hl hG O hr hm => by subst hl; subst hG; exact wk_X1_poly O hfl hg hr hm o x1 s) h
theorem hd_X0_poly : yX0_poly.cls ≠ "java/lang/invoke/MethodHandle" ∧ yX0_poly.cls ≠ "java/lang/invoke/VarHandle" ∧ (parseMethodDescriptor yX0_poly.desc).map (fun d => d.parameters.length) = some 1 := by decide +kernel
theorem hv_X0_poly : yX0_poly.cls = RX0 ∧ yX0_poly.cls ≠ "java/lang/invoke/MethodHandle" ∧ yX0_poly.cls ≠ "java/lang/invoke/VarHandle" ∧ (parseMethodDescriptor yX0_poly.desc).map (fun d => d.parameters.length) = some 1 := ⟨rfl, hd_X0_poly⟩
theorem hu_X0_poly : yX0_poly.name ≠ "<init>" ∧ (parseMethodDescriptor yX0_poly.desc).map (fun d => d.parameters.length) = some 1 := ⟨by decide +kernel, hd_X0_poly.2.2⟩
set_option maxHeartbeats 4000000 in
set_option maxRecDepth 100000 in
theorem wk_X0_poly {X : XC} (O : XOk X cX0_poly RX0 3 72) (hfl : (xL X).stackTraces = false) (hg : (xG X).2.2.2.2 = zAll (xG X).1.1 (xG X).1.2.2.2 (xG X).2.2.2.1) (hr : (xMeth X).sig.returnType = (some .long)) (hm : (xC X).maxLocals = 2) (o : Nat) (x1 : Int32) (s : XS) : Sim X xI (retC X eL xI) 0 [(0, .ref o), (1, .int x1)] [] s (x0_poly o x1 s) := by
  have hzz := O.hst
  rw [hg] at hzz
  unfold x0_poly
  refine s_iload_n O 1 rfl rfl dX0_poly_0 ?_
  refine s_i2l O dX0_poly_1 ?_
  refine s_lconst O (x := 0) (by decide) dX0_poly_2 ?_
  refine s_ldc2 O (x := 1000) q1004 dX0_poly_3 ?_
  refine s_callP O (enc2 := eI) (av := [.long x1.toInt64, .long 0, .long 1000]) (rest := []) 3 (fun v0 h0 => mt_X0_isIn (xL X) (xG X) _ x1.toInt64 0 1000 v0 h0) (lw_S q317 q318 q131 q319) hd_X0_isIn ⟨Nat.le_of_ble_eq_true rfl, Nat.le_of_ble_eq_true rfl⟩ rfl (Nat.le_of_ble_eq_true rfl) dX0_poly_6 (fun v1 => ?_)
  refine s_if_eq O (tgt := 23) dX0_poly_9 (by decide) ?_ ?_
  · refine s_ldc2 O (x := (-1000000000000000)) q1014 dX0_poly_23 ?_
    exact s_lreturn O hr rfl dX0_poly_26
  · refine s_aload_n O 0 rfl rfl dX0_poly_12 ?_
    refine x_get O (ci := 0) (T := TX0) (N := 20) in_X0 rfl 3 (by decide) q234 (fun _ h => h) dX0_poly_13 (fun v0 => ?_)
    refine s_vR (fun r3 => ?_)
    refine s_iload_n O 1 rfl rfl dX0_poly_16 ?_
    refine s_dr (fun p4 hp5 => ?_)
    subst hp5
    refine x_callV O (enc2 := eL) (ci := 1) (av := [.int x1]) (rest := []) 1 (fun v0 t0 h0 => mt_X1_poly (xL X) (xG X) hfl hg p4 x1 _ t0 v0 h0) (lw_V q1005 q1006 q1007 q132 q1008) hv_X1_poly ⟨Nat.le_of_ble_eq_true rfl, Nat.le_of_ble_eq_true rfl⟩ rfl rfl (Nat.le_of_ble_eq_true rfl) dX0_poly_17 (fun v6 s7 => ?_)
    refine s_goto O (tgt := 26) dX0_poly_20 (by decide) ?_
    exact s_lreturn O hr rfl dX0_poly_26
theorem mt_X0_poly (l : Launch) (G : XG) (hfl : l.stackTraces = false) (hg : G.2.2.2.2 = zAll G.1.1 G.1.2.2.2 G.2.2.2.1) (o : Nat) (x1 : Int32) (s t : XS) (v : Int64) (h : x0_poly o x1 s = some (v, t)) : xMet l yX0_poly (ws_ yX0_poly cX0_poly 2 (some .long)) 3 72 G (xI s) [.ref o, .int x1] (eL v) (xI t) :=
  xMet_of (E := xI) (enc := eL) (by decide +kernel) (Nat.le_of_ble_eq_true rfl) (fun X hl hG O hr hm => by subst hl; subst hG; exact wk_X0_poly O hfl hg hr hm o x1 s) h
theorem hd_X0_agrees : yX0_agrees.cls ≠ "java/lang/invoke/MethodHandle" ∧ yX0_agrees.cls ≠ "java/lang/invoke/VarHandle" ∧ (parseMethodDescriptor yX0_agrees.desc).map (fun d => d.parameters.length) = some 0 := by decide +kernel
theorem hv_X0_agrees : yX0_agrees.cls = RX0 ∧ yX0_agrees.cls ≠ "java/lang/invoke/MethodHandle" ∧ yX0_agrees.cls ≠ "java/lang/invoke/VarHandle" ∧ (parseMethodDescriptor yX0_agrees.desc).map (fun d => d.parameters.length) = some 0 := ⟨rfl, hd_X0_agrees⟩
theorem hu_X0_agrees : yX0_agrees.name ≠ "<init>" ∧ (parseMethodDescriptor yX0_agrees.desc).map (fun d => d.parameters.length) = some 0 := ⟨by decide +kernel, hd_X0_agrees.2.2⟩
set_option maxHeartbeats 4000000 in
set_option maxRecDepth 100000 in
theorem wk_X0_agrees {X : XC} (O : XOk X cX0_agrees RX0 3 72) (hfl : (xL X).stackTraces = false) (hg : (xG X).2.2.2.2 = zAll (xG X).1.1 (xG X).1.2.2.2 (xG X).2.2.2.1) (hr : (xMeth X).sig.returnType = (some .int)) (hm : (xC X).maxLocals = 2) (o : Nat) (s : XS) : Sim X xI (retC X eI xI) 0 [(0, .ref o)] [] s (x0_agrees o s) := by
  have hzz := O.hst
  rw [hg] at hzz
  unfold x0_agrees
  refine s_bipush O (x := 40) (by decide) dX0_agrees_0 ?_
  refine s_istore_n O (L' := [(1, .int 40), (0, .ref o)]) hm (by decide) rfl rfl dX0_agrees_2 ?_
  refine Sim.sub (L' := [(0, .ref o), (1, .int 40)]) [1, 0] rfl ?_
  refine s_while (A := Int32) (B := Int32) (La := fun a3 => [(0, .ref o), (1, .int a3)]) (We := fun b3 s12 => xWX X 38 [(1, .int b3)] [] ((xI) s12)) rfl rfl ?_ ?_
  · intro Cl hn he a3 s1
    unfold x0_agrees_s3
    refine s_iload_n O 1 rfl rfl dX0_agrees_3 ?_
    refine s_if_le O (tgt := 38) dX0_agrees_4 (by decide) ?_ ?_
    · refine Sim.sub (L' := [(1, .int a3)]) [1] rfl ?_
      exact Sim.ret (he _ _)
    · refine s_aload_n O 0 rfl rfl dX0_agrees_7 ?_
      refine x_get O (ci := 0) (T := TX0) (N := 20) in_X0 rfl 3 (by decide) q234 (fun _ h => h) dX0_agrees_8 (fun v0 => ?_)
      refine s_vR (fun r2 => ?_)
      refine s_iload_n O 1 rfl rfl dX0_agrees_11 ?_
      refine s_iconst O (x := 1) (by decide) dX0_agrees_12 ?_
      refine s_isub O dX0_agrees_13 ?_
      refine s_dr (fun p3 hp4 => ?_)
      subst hp4
      refine x_callV O (enc2 := eI) (ci := 1) (av := [.int (a3 - 1)]) (rest := []) 1 (fun v0 t0 h0 => mt_X1_size (xL X) (xG X) hfl hg p3 (a3 - 1) _ t0 v0 h0) (lw_V q984 q985 q986 q132 q987) hv_X1_size ⟨Nat.le_of_ble_eq_true rfl, Nat.le_of_ble_eq_true rfl⟩ rfl rfl (Nat.le_of_ble_eq_true rfl) dX0_agrees_14 (fun v5 s6 => ?_)
      refine s_i2l O dX0_agrees_17 ?_
      refine s_aload_n O 0 rfl rfl dX0_agrees_18 ?_
      refine x_get O (ci := 0) (T := TX0) (N := 20) in_X0 rfl 3 (by decide) q234 (fun _ h => h) dX0_agrees_19 (fun v0 => ?_)
      refine s_vR (fun r7 => ?_)
      refine s_iload_n O 1 rfl rfl dX0_agrees_22 ?_
      refine s_iconst O (x := 1) (by decide) dX0_agrees_23 ?_
      refine s_isub O dX0_agrees_24 ?_
      refine s_dr (fun p8 hp9 => ?_)
      subst hp9
      refine x_callV O (enc2 := eL) (ci := 1) (av := [.int (a3 - 1)]) (rest := [.long v5.toInt64]) 1 (fun v0 t0 h0 => mt_X1_poly (xL X) (xG X) hfl hg p8 (a3 - 1) _ t0 v0 h0) (lw_V q1005 q1006 q1007 q132 q1008) hv_X1_poly ⟨Nat.le_of_ble_eq_true rfl, Nat.le_of_ble_eq_true rfl⟩ rfl rfl (Nat.le_of_ble_eq_true rfl) dX0_agrees_25 (fun v10 s11 => ?_)
      refine s_lcmp_ne O (tgt := 38) dX0_agrees_28 dX0_agrees_29 (by decide) ?_ ?_
      · refine Sim.sub (L' := [(1, .int a3)]) [1] rfl ?_
        exact Sim.ret (he _ _)
      · refine s_iinc O (y := (a3 + (-1))) (L' := [(1, .int (a3 + (-1))), (0, .ref o)]) 1 rfl hm (by decide) (congrArg (HAdd.hAdd a3) (by decide)) rfl dX0_agrees_32 ?_
        refine s_goto O (tgt := 3) dX0_agrees_35 (by decide) ?_
        refine Sim.sub (L' := [(0, .ref o), (1, .int (a3 + (-1)))]) [1, 0] rfl ?_
        exact Sim.ret (hn _ _)
  · intro b3 s12
    show Sim X (xI) (retC X eI xI) 38 [(1, .int b3)] [] s12 _
    refine s_iload_n O 0 rfl rfl dX0_agrees_38 ?_
    exact s_ireturn O hr rfl dX0_agrees_39
theorem mt_X0_agrees (l : Launch) (G : XG) (hfl : l.stackTraces = false) (hg : G.2.2.2.2 = zAll G.1.1 G.1.2.2.2 G.2.2.2.1) (o : Nat) (s t : XS) (v : Int32) (h : x0_agrees o s = some (v, t)) : xMet l yX0_agrees (ws_ yX0_agrees cX0_agrees 2 (some .int)) 3 72 G (xI s) [.ref o] (eI v) (xI t) :=
  xMet_of (E := xI) (enc := eI) (by decide +kernel) (Nat.le_of_ble_eq_true rfl) (fun X hl hG O hr hm => by subst hl; subst hG; exact wk_X0_agrees O hfl hg hr hm o s) h
theorem hd_X1_about : yX1_about.cls ≠ "java/lang/invoke/MethodHandle" ∧ yX1_about.cls ≠ "java/lang/invoke/VarHandle" ∧ (parseMethodDescriptor yX1_about.desc).map (fun d => d.parameters.length) = some 0 := by decide +kernel
theorem hv_X1_about : yX1_about.cls = RX1 ∧ yX1_about.cls ≠ "java/lang/invoke/MethodHandle" ∧ yX1_about.cls ≠ "java/lang/invoke/VarHandle" ∧ (parseMethodDescriptor yX1_about.desc).map (fun d => d.parameters.length) = some 0 := ⟨rfl, hd_X1_about⟩
theorem hu_X1_about : yX1_about.name ≠ "<init>" ∧ (parseMethodDescriptor yX1_about.desc).map (fun d => d.parameters.length) = some 0 := ⟨by decide +kernel, hd_X1_about.2.2⟩
set_option maxHeartbeats 4000000 in
set_option maxRecDepth 100000 in
theorem wk_X1_about {X : XC} (O : XOk X cX1_about RX1 2 45) (hfl : (xL X).stackTraces = false) (hg : (xG X).2.2.2.2 = zAll (xG X).1.1 (xG X).1.2.2.2 (xG X).2.2.2.1) (hr : (xMeth X).sig.returnType = (some (.array .long))) (hm : (xC X).maxLocals = 8) (o : Nat) (s : XS) : Sim X xI (retC X eR xI) 0 [(0, .ref o)] [] s (x1_about o s) := by
  have hzz := O.hst
  rw [hg] at hzz
  unfold x1_about
  have hj117 : ∀ (x2_117 : Int64) (x4_117 : Int64) (x6_117 : Int32) (s23 : XS), Sim X (xI) (retC X eR xI) 117 [(2, .long x2_117), (4, .long x4_117), (6, .int x6_117)] [] s23 (x1_about_j117 x2_117 x4_117 x6_117 s23) := by
    intro x2_117 x4_117 x6_117 s23
    unfold x1_about_j117
    refine s_iconst O (x := 2) (by decide) dX1_about_117 ?_
    refine x_newL O q1015 dX1_about_118 (fun p24 s25 => ?_)
    refine s_dup O rfl dX1_about_120 ?_
    refine s_iconst O (x := 0) (by decide) dX1_about_121 ?_
    refine s_lload O 1 rfl dX1_about_122 ?_
    refine s_lconst O (x := 0) (by decide) dX1_about_124 ?_
    refine s_lcmp_ne O (tgt := 133) dX1_about_125 dX1_about_126 (by decide) ?_ ?_
    · refine s_iload O 2 rfl dX1_about_133 ?_
      refine s_i2l O dX1_about_135 ?_
      refine x_last O dX1_about_136 (fun s26 => ?_)
      refine s_dup O rfl dX1_about_137 ?_
      refine s_iconst O (x := 1) (by decide) dX1_about_138 ?_
      refine s_lload_n O 0 rfl rfl dX1_about_139 ?_
      refine x_last O dX1_about_140 (fun s27 => ?_)
      exact s_areturnQ O (r := (some p24)) hr (Or.inr ⟨_, rfl⟩) rfl dX1_about_141
    · refine s_lconst O (x := 0) (by decide) dX1_about_129 ?_
      refine s_goto O (tgt := 136) dX1_about_130 (by decide) ?_
      refine x_last O dX1_about_136 (fun s28 => ?_)
      refine s_dup O rfl dX1_about_137 ?_
      refine s_iconst O (x := 1) (by decide) dX1_about_138 ?_
      refine s_lload_n O 0 rfl rfl dX1_about_139 ?_
      refine x_last O dX1_about_140 (fun s29 => ?_)
      exact s_areturnQ O (r := (some p24)) hr (Or.inr ⟨_, rfl⟩) rfl dX1_about_141
  refine s_bipush O (x := 41) (by decide) dX1_about_0 ?_
  refine x_newL O q1015 dX1_about_2 (fun p1 s2 => ?_)
  refine s_astore_n O (L' := [(1, .ref p1), (0, .ref o)]) hm (by decide) rfl rfl dX1_about_4 ?_
  refine s_lconst O (x := 0) (by decide) dX1_about_5 ?_
  refine s_lstore_n O (L' := [(2, .long 0), (1, .ref p1), (0, .ref o)]) hm (by decide) rfl rfl dX1_about_6 ?_
  refine s_lconst O (x := 0) (by decide) dX1_about_7 ?_
  refine s_lstore O (L' := [(4, .long 0), (2, .long 0), (1, .ref p1), (0, .ref o)]) hm (by decide) rfl dX1_about_8 ?_
  refine s_iconst O (x := 0) (by decide) dX1_about_10 ?_
  refine s_istore O (L' := [(6, .int 0), (4, .long 0), (2, .long 0), (1, .ref p1), (0, .ref o)]) hm (by decide) rfl dX1_about_11 ?_
  refine Sim.sub (L' := [(0, .ref o), (1, .ref p1), (2, .long 0), (4, .long 0), (6, .int 0)]) [4, 3, 2, 1, 0] rfl ?_
  refine s_while (A := Int64 × Int64 × Int32) (B := Int64 × Int64) (La := fun a13 => [(0, .ref o), (1, .ref p1), (2, .long a13.1), (4, .long a13.2.1), (6, .int a13.2.2)]) (We := fun b13 s11 => xWX X 52 [(0, .ref o), (1, .ref p1), (2, .long b13.1), (4, .long b13.2)] [] ((xI) s11)) rfl rfl ?_ ?_
  · intro Cl hn he a13 s3
    unfold x1_about_s13
    refine s_iload O 4 rfl dX1_about_13 ?_
    refine s_bipush O (x := 40) (by decide) dX1_about_15 ?_
    refine s_icmp_gt O (tgt := 52) dX1_about_17 (by decide) ?_ ?_
    · refine Sim.sub (L' := [(0, .ref o), (1, .ref p1), (2, .long a13.1), (4, .long a13.2.1)]) [0, 1, 2, 3] rfl ?_
      exact Sim.ret (he _ _)
    · refine s_aload_n O 1 rfl rfl dX1_about_20 ?_
      refine s_iload O 4 rfl dX1_about_21 ?_
      refine s_aload_n O 0 rfl rfl dX1_about_23 ?_
      refine s_iload O 4 rfl dX1_about_24 ?_
      refine x_callV O (enc2 := eL) (ci := 1) (av := [.int a13.2.2]) (rest := [.int a13.2.2, .ref p1]) 1 (fun v0 t0 h0 => mt_X1_numerator (xL X) (xG X) hfl hg o a13.2.2 _ t0 v0 h0) (lw_V q1009 q1010 q1011 q132 q1012) hv_X1_numerator ⟨Nat.le_of_ble_eq_true rfl, Nat.le_of_ble_eq_true rfl⟩ rfl rfl (Nat.le_of_ble_eq_true rfl) dX1_about_26 (fun v4 s5 => ?_)
      refine x_last O dX1_about_29 (fun s6 => ?_)
      refine s_lload_n O 2 rfl rfl dX1_about_30 ?_
      refine s_aload_n O 1 rfl rfl dX1_about_31 ?_
      refine s_iload O 4 rfl dX1_about_32 ?_
      refine x_lald O dX1_about_34 (fun w7 => ?_)
      refine s_ladd O dX1_about_35 ?_
      refine s_nml fun w8 => ?_
      refine s_lstore_n O (L' := [(2, .long w8), (0, .ref o), (1, .ref p1), (4, .long a13.2.1), (6, .int a13.2.2)]) hm (by decide) rfl rfl dX1_about_36 ?_
      refine s_lload O 3 rfl dX1_about_37 ?_
      refine s_aload_n O 2 rfl rfl dX1_about_39 ?_
      refine s_iload O 4 rfl dX1_about_40 ?_
      refine x_lald O dX1_about_42 (fun w9 => ?_)
      refine s_lor O dX1_about_43 ?_
      refine s_nml fun w10 => ?_
      refine s_lstore O (L' := [(4, .long w10), (2, .long w8), (0, .ref o), (1, .ref p1), (6, .int a13.2.2)]) hm (by decide) rfl dX1_about_44 ?_
      refine s_iinc O (y := (a13.2.2 + 1)) (L' := [(6, .int (a13.2.2 + 1)), (4, .long w10), (2, .long w8), (0, .ref o), (1, .ref p1)]) 4 rfl hm (by decide) rfl rfl dX1_about_46 ?_
      refine s_goto O (tgt := 13) dX1_about_49 (by decide) ?_
      refine Sim.sub (L' := [(0, .ref o), (1, .ref p1), (2, .long w8), (4, .long w10), (6, .int (a13.2.2 + 1))]) [3, 4, 2, 1, 0] rfl ?_
      exact Sim.ret (hn _ _)
  · intro b13 s11
    show Sim X (xI) (retC X eR xI) 52 [(0, .ref o), (1, .ref p1), (2, .long b13.1), (4, .long b13.2)] [] s11 _
    refine s_aload_n O 0 rfl rfl dX1_about_52 ?_
    refine x_get O (ci := 1) (T := TX1) (N := 6) in_X1 rfl 0 (by decide) q205 (fun _ h => h) dX1_about_53 (fun v0 => ?_)
    refine s_vI (fun u12 => ?_)
    refine s_istore O (L' := [(6, .int u12), (0, .ref o), (1, .ref p1), (2, .long b13.1), (4, .long b13.2)]) hm (by decide) rfl dX1_about_56 ?_
    refine Sim.sub (L' := [(1, .ref p1), (2, .long b13.1), (4, .long b13.2), (6, .int u12)]) [2, 3, 4, 0] rfl ?_
    refine s_while (A := Int64 × Int32) (B := Int64 × Int32) (La := fun a58 => [(1, .ref p1), (2, .long a58.1), (4, .long b13.2), (6, .int a58.2)]) (We := fun b58 s22 => xWX X 117 [(2, .long b58.1), (4, .long b13.2), (6, .int b58.2)] [] ((xI) s22)) rfl rfl ?_ ?_
    · intro Cl hn he a58 s13
      unfold x1_about_s58
      refine s_lload O 2 rfl dX1_about_58 ?_
      refine s_lconst O (x := 0) (by decide) dX1_about_60 ?_
      refine s_lcmp_eq O (tgt := 117) dX1_about_61 dX1_about_62 (by decide) ?_ ?_
      · refine Sim.sub (L' := [(2, .long a58.1), (4, .long b13.2), (6, .int a58.2)]) [1, 2, 3] rfl ?_
        exact Sim.ret (he _ _)
      · refine s_lload_n O 1 rfl rfl dX1_about_65 ?_
        refine s_lconst O (x := 0) (by decide) dX1_about_66 ?_
        refine s_lcmp_ne O (tgt := 117) dX1_about_67 dX1_about_68 (by decide) ?_ ?_
        · refine Sim.sub (L' := [(2, .long a58.1), (4, .long b13.2), (6, .int a58.2)]) [1, 2, 3] rfl ?_
          exact Sim.ret (he _ _)
        · refine s_iinc O (y := (a58.2 + (-1))) (L' := [(6, .int (a58.2 + (-1))), (1, .ref p1), (2, .long a58.1), (4, .long b13.2)]) 3 rfl hm (by decide) (congrArg (HAdd.hAdd a58.2) (by decide)) rfl dX1_about_71 ?_
          refine s_aload_n O 1 rfl rfl dX1_about_74 ?_
          refine s_iconst O (x := 0) (by decide) dX1_about_75 ?_
          refine x_lald O dX1_about_76 (fun w14 => ?_)
          refine s_lstore_n O (L' := [(2, .long w14), (6, .int (a58.2 + (-1))), (1, .ref p1), (4, .long b13.2)]) hm (by decide) rfl rfl dX1_about_77 ?_
          refine s_iconst O (x := 1) (by decide) dX1_about_78 ?_
          refine s_istore O (L' := [(7, .int 1), (2, .long w14), (6, .int (a58.2 + (-1))), (1, .ref p1), (4, .long b13.2)]) hm (by decide) rfl dX1_about_79 ?_
          refine Sim.sub (L' := [(1, .ref p1), (2, .long w14), (4, .long b13.2), (6, .int (a58.2 + (-1))), (7, .int 1)]) [3, 1, 4, 2, 0] rfl ?_
          refine s_while (A := Int64 × Int32) (B := Int64) (La := fun a81 => [(1, .ref p1), (2, .long a81.1), (4, .long b13.2), (6, .int (a58.2 + (-1))), (7, .int a81.2)]) (We := fun b81 s21 => xWX X 114 [(1, .ref p1), (2, .long b81), (4, .long b13.2), (6, .int (a58.2 + (-1)))] [] ((xI) s21)) rfl rfl ?_ ?_
          · intro Cl hn he a81 s15
            unfold x1_about_s81
            refine s_iload O 4 rfl dX1_about_81 ?_
            refine s_bipush O (x := 40) (by decide) dX1_about_83 ?_
            refine s_icmp_gt O (tgt := 114) dX1_about_85 (by decide) ?_ ?_
            · refine Sim.sub (L' := [(1, .ref p1), (2, .long a81.1), (4, .long b13.2), (6, .int (a58.2 + (-1)))]) [0, 1, 2, 3] rfl ?_
              exact Sim.ret (he _ _)
            · refine s_aload_n O 0 rfl rfl dX1_about_88 ?_
              refine s_iload O 4 rfl dX1_about_89 ?_
              refine s_dup2 O rfl rfl dX1_about_91 ?_
              refine x_lald O dX1_about_92 (fun w16 => ?_)
              refine s_aload_n O 0 rfl rfl dX1_about_93 ?_
              refine s_iload O 4 rfl dX1_about_94 ?_
              refine s_iconst O (x := 1) (by decide) dX1_about_96 ?_
              refine s_isub O dX1_about_97 ?_
              refine x_lald O dX1_about_98 (fun w17 => ?_)
              refine s_ladd O dX1_about_99 ?_
              refine x_last O dX1_about_100 (fun s18 => ?_)
              refine s_lload_n O 1 rfl rfl dX1_about_101 ?_
              refine s_aload_n O 0 rfl rfl dX1_about_102 ?_
              refine s_iload O 4 rfl dX1_about_103 ?_
              refine x_lald O dX1_about_105 (fun w19 => ?_)
              refine s_ladd O dX1_about_106 ?_
              refine s_nml fun w20 => ?_
              refine s_lstore_n O (L' := [(2, .long w20), (1, .ref p1), (4, .long b13.2), (6, .int (a58.2 + (-1))), (7, .int a81.2)]) hm (by decide) rfl rfl dX1_about_107 ?_
              refine s_iinc O (y := (a81.2 + 1)) (L' := [(7, .int (a81.2 + 1)), (2, .long w20), (1, .ref p1), (4, .long b13.2), (6, .int (a58.2 + (-1)))]) 4 rfl hm (by decide) rfl rfl dX1_about_108 ?_
              refine s_goto O (tgt := 81) dX1_about_111 (by decide) ?_
              refine Sim.sub (L' := [(1, .ref p1), (2, .long w20), (4, .long b13.2), (6, .int (a58.2 + (-1))), (7, .int (a81.2 + 1))]) [2, 1, 3, 4, 0] rfl ?_
              exact Sim.ret (hn _ _)
          · intro b81 s21
            show Sim X (xI) Cl 114 [(1, .ref p1), (2, .long b81), (4, .long b13.2), (6, .int (a58.2 + (-1)))] [] s21 _
            refine s_goto O (tgt := 58) dX1_about_114 (by decide) ?_
            exact Sim.ret (hn _ _)
    · intro b58 s22
      show Sim X (xI) (retC X eR xI) 117 [(2, .long b58.1), (4, .long b13.2), (6, .int b58.2)] [] s22 _
      exact hj117 b58.1 b13.2 b58.2 _
theorem mt_X1_about (l : Launch) (G : XG) (hfl : l.stackTraces = false) (hg : G.2.2.2.2 = zAll G.1.1 G.1.2.2.2 G.2.2.2.1) (o : Nat) (s t : XS) (v : Option Nat) (h : x1_about o s = some (v, t)) : xMet l yX1_about (ws_ yX1_about cX1_about 8 (some (.array .long))) 2 45 G (xI s) [.ref o] (eR v) (xI t) :=
  xMet_of (E := xI) (enc := eR) (by decide +kernel) (Nat.le_of_ble_eq_true rfl) (fun X hl hG O hr hm => by subst hl; subst hG; exact wk_X1_about O hfl hg hr hm o s) h
theorem hd_X0_about : yX0_about.cls ≠ "java/lang/invoke/MethodHandle" ∧ yX0_about.cls ≠ "java/lang/invoke/VarHandle" ∧ (parseMethodDescriptor yX0_about.desc).map (fun d => d.parameters.length) = some 1 := by decide +kernel
theorem hv_X0_about : yX0_about.cls = RX0 ∧ yX0_about.cls ≠ "java/lang/invoke/MethodHandle" ∧ yX0_about.cls ≠ "java/lang/invoke/VarHandle" ∧ (parseMethodDescriptor yX0_about.desc).map (fun d => d.parameters.length) = some 1 := ⟨rfl, hd_X0_about⟩
theorem hu_X0_about : yX0_about.name ≠ "<init>" ∧ (parseMethodDescriptor yX0_about.desc).map (fun d => d.parameters.length) = some 1 := ⟨by decide +kernel, hd_X0_about.2.2⟩
set_option maxHeartbeats 4000000 in
set_option maxRecDepth 100000 in
theorem wk_X0_about {X : XC} (O : XOk X cX0_about RX0 3 72) (hfl : (xL X).stackTraces = false) (hg : (xG X).2.2.2.2 = zAll (xG X).1.1 (xG X).1.2.2.2 (xG X).2.2.2.1) (hr : (xMeth X).sig.returnType = (some .int)) (hm : (xC X).maxLocals = 2) (o : Nat) (x1 : Int32) (s : XS) : Sim X xI (retC X eI xI) 0 [(0, .ref o), (1, .int x1)] [] s (x0_about o x1 s) := by
  have hzz := O.hst
  rw [hg] at hzz
  unfold x0_about
  refine s_iload_n O 1 rfl rfl dX0_about_0 ?_
  refine s_i2l O dX0_about_1 ?_
  refine s_lconst O (x := 0) (by decide) dX0_about_2 ?_
  refine s_lconst O (x := 1) (by decide) dX0_about_3 ?_
  refine s_callP O (enc2 := eI) (av := [.long x1.toInt64, .long 0, .long 1]) (rest := []) 3 (fun v0 h0 => mt_X0_isIn (xL X) (xG X) _ x1.toInt64 0 1 v0 h0) (lw_S q317 q318 q131 q319) hd_X0_isIn ⟨Nat.le_of_ble_eq_true rfl, Nat.le_of_ble_eq_true rfl⟩ rfl (Nat.le_of_ble_eq_true rfl) dX0_about_4 (fun v1 => ?_)
  refine s_if_eq O (tgt := 23) dX0_about_7 (by decide) ?_ ?_
  · refine s_iconst O (x := (-1)) (by decide) dX0_about_23 ?_
    exact s_ireturn O hr rfl dX0_about_24
  · refine s_aload_n O 0 rfl rfl dX0_about_10 ?_
    refine x_get O (ci := 0) (T := TX0) (N := 20) in_X0 rfl 3 (by decide) q234 (fun _ h => h) dX0_about_11 (fun v0 => ?_)
    refine s_vR (fun r3 => ?_)
    refine s_dr (fun p4 hp5 => ?_)
    subst hp5
    refine x_callV O (enc2 := eR) (ci := 1) (av := []) (rest := []) 0 (fun v0 t0 h0 => mt_X1_about (xL X) (xG X) hfl hg p4 _ t0 v0 h0) (lw_V q1024 q1025 q1026 q132 q1027) hv_X1_about ⟨Nat.le_of_ble_eq_true rfl, Nat.le_of_ble_eq_true rfl⟩ rfl rfl (Nat.le_of_ble_eq_true rfl) dX0_about_14 (fun r6 s7 => ?_)
    refine s_iload_n O 1 rfl rfl dX0_about_17 ?_
    refine s_dr (fun p8 hp9 => ?_)
    subst hp9
    refine x_lald O dX0_about_18 (fun w10 => ?_)
    refine s_l2i O dX0_about_19 ?_
    refine s_goto O (tgt := 24) dX0_about_20 (by decide) ?_
    exact s_ireturn O hr rfl dX0_about_24
theorem mt_X0_about (l : Launch) (G : XG) (hfl : l.stackTraces = false) (hg : G.2.2.2.2 = zAll G.1.1 G.1.2.2.2 G.2.2.2.1) (o : Nat) (x1 : Int32) (s t : XS) (v : Int32) (h : x0_about o x1 s = some (v, t)) : xMet l yX0_about (ws_ yX0_about cX0_about 2 (some .int)) 3 72 G (xI s) [.ref o, .int x1] (eI v) (xI t) :=
  xMet_of (E := xI) (enc := eI) (by decide +kernel) (Nat.le_of_ble_eq_true rfl) (fun X hl hG O hr hm => by subst hl; subst hG; exact wk_X0_about O hfl hg hr hm o x1 s) h
theorem hd_X0_numerator : yX0_numerator.cls ≠ "java/lang/invoke/MethodHandle" ∧ yX0_numerator.cls ≠ "java/lang/invoke/VarHandle" ∧ (parseMethodDescriptor yX0_numerator.desc).map (fun d => d.parameters.length) = some 1 := by decide +kernel
theorem hv_X0_numerator : yX0_numerator.cls = RX0 ∧ yX0_numerator.cls ≠ "java/lang/invoke/MethodHandle" ∧ yX0_numerator.cls ≠ "java/lang/invoke/VarHandle" ∧ (parseMethodDescriptor yX0_numerator.desc).map (fun d => d.parameters.length) = some 1 := ⟨rfl, hd_X0_numerator⟩
theorem hu_X0_numerator : yX0_numerator.name ≠ "<init>" ∧ (parseMethodDescriptor yX0_numerator.desc).map (fun d => d.parameters.length) = some 1 := ⟨by decide +kernel, hd_X0_numerator.2.2⟩
set_option maxHeartbeats 4000000 in
set_option maxRecDepth 100000 in
theorem wk_X0_numerator {X : XC} (O : XOk X cX0_numerator RX0 2 45) (hfl : (xL X).stackTraces = false) (hg : (xG X).2.2.2.2 = zAll (xG X).1.1 (xG X).1.2.2.2 (xG X).2.2.2.1) (hr : (xMeth X).sig.returnType = (some .long)) (hm : (xC X).maxLocals = 2) (o : Nat) (x1 : Int32) (s : XS) : Sim X xI (retC X eL xI) 0 [(0, .ref o), (1, .int x1)] [] s (x0_numerator o x1 s) := by
  have hzz := O.hst
  rw [hg] at hzz
  unfold x0_numerator
  refine s_iload_n O 1 rfl rfl dX0_numerator_0 ?_
  refine s_callP O (enc2 := eI) (av := [.int x1]) (rest := []) 1 (fun v0 h0 => mt_X0_isDegree (xL X) (xG X) _ x1 v0 h0) (lw_S q920 q921 q131 q922) hd_X0_isDegree ⟨Nat.le_of_ble_eq_true rfl, Nat.le_of_ble_eq_true rfl⟩ rfl (Nat.le_of_ble_eq_true rfl) dX0_numerator_1 (fun v1 => ?_)
  refine s_if_eq O (tgt := 18) dX0_numerator_4 (by decide) ?_ ?_
  · refine s_ldc2 O (x := (-1000000000000000)) q1014 dX0_numerator_18 ?_
    exact s_lreturn O hr rfl dX0_numerator_21
  · refine s_aload_n O 0 rfl rfl dX0_numerator_7 ?_
    refine x_get O (ci := 0) (T := TX0) (N := 20) in_X0 rfl 3 (by decide) q234 (fun _ h => h) dX0_numerator_8 (fun v0 => ?_)
    refine s_vR (fun r3 => ?_)
    refine s_iload_n O 1 rfl rfl dX0_numerator_11 ?_
    refine s_dr (fun p4 hp5 => ?_)
    subst hp5
    refine x_callV O (enc2 := eL) (ci := 1) (av := [.int x1]) (rest := []) 1 (fun v0 t0 h0 => mt_X1_numerator (xL X) (xG X) hfl hg p4 x1 _ t0 v0 h0) (lw_V q1032 q1010 q1011 q132 q1012) hv_X1_numerator ⟨Nat.le_of_ble_eq_true rfl, Nat.le_of_ble_eq_true rfl⟩ rfl rfl (Nat.le_of_ble_eq_true rfl) dX0_numerator_12 (fun v6 s7 => ?_)
    refine s_goto O (tgt := 21) dX0_numerator_15 (by decide) ?_
    exact s_lreturn O hr rfl dX0_numerator_21
theorem mt_X0_numerator (l : Launch) (G : XG) (hfl : l.stackTraces = false) (hg : G.2.2.2.2 = zAll G.1.1 G.1.2.2.2 G.2.2.2.1) (o : Nat) (x1 : Int32) (s t : XS) (v : Int64) (h : x0_numerator o x1 s = some (v, t)) : xMet l yX0_numerator (ws_ yX0_numerator cX0_numerator 2 (some .long)) 2 45 G (xI s) [.ref o, .int x1] (eL v) (xI t) :=
  xMet_of (E := xI) (enc := eL) (by decide +kernel) (Nat.le_of_ble_eq_true rfl) (fun X hl hG O hr hm => by subst hl; subst hG; exact wk_X0_numerator O hfl hg hr hm o x1 s) h
