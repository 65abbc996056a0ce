/-! THE COMPONENT's WALKS, printed by tools/mk_x.py -/
theorem hd_J0_init : yJ0_init.cls ≠ "java/lang/invoke/MethodHandle" ∧ yJ0_init.cls ≠ "java/lang/invoke/VarHandle" ∧ (parseMethodDescriptor yJ0_init.desc).map (fun d => d.parameters.length) = some 0 := by decide +kernel
theorem hv_J0_init : yJ0_init.cls = RJ0 ∧ yJ0_init.cls ≠ "java/lang/invoke/MethodHandle" ∧ yJ0_init.cls ≠ "java/lang/invoke/VarHandle" ∧ (parseMethodDescriptor yJ0_init.desc).map (fun d => d.parameters.length) = some 0 := ⟨rfl, hd_J0_init⟩
set_option maxHeartbeats 4000000 in
set_option maxRecDepth 100000 in
theorem wk_J0_init {X : XC} (O : XOk X cJ0_init RJ0 1 20) (hfl : (xL X).stackTraces = false) (hg : (xG X).2.2.2.2 = zAll (xG X).1.1 (xG X).1.2.2.2 (xG X).2.2.2.1) (hr : (xMeth X).sig.returnType = none) (hm : (xC X).maxLocals = 1) (o : Nat) (s : XS) : Sim X xI (retC X eU xI) 0 [(0, .ref o)] [] s (j0_init o s) := by
  have hzz := O.hst
  rw [hg] at hzz
  unfold j0_init
  refine s_aload_n O 0 rfl rfl dJ0_init_0 ?_
  refine x_objInit O q185 q163 q164 ⟨Nat.le_of_ble_eq_true rfl, Nat.le_of_ble_eq_true rfl⟩ (Nat.le_of_ble_eq_true rfl) dJ0_init_1 ?_
  exact s_return O hr rfl dJ0_init_4
theorem mt_J0_init (l : Launch) (G : XG) (hfl : l.stackTraces = false) (hg : G.2.2.2.2 = zAll G.1.1 G.1.2.2.2 G.2.2.2.1) (o : Nat) (s t : XS) (v : Unit) (h : j0_init o s = some (v, t)) : xMet l yJ0_init (ws_ yJ0_init cJ0_init 1 none) 1 20 G (xI s) [.ref o] (eU v) (xI t) :=
  xMet_of (E := xI) (enc := eU) (by decide +kernel) (Nat.le_of_ble_eq_true rfl) (fun X hl hG O hr hm => by subst hl; subst hG; exact wk_J0_init O hfl hg hr hm o s) h
theorem hd_J1_init : yJ1_init.cls ≠ "java/lang/invoke/MethodHandle" ∧ yJ1_init.cls ≠ "java/lang/invoke/VarHandle" ∧ (parseMethodDescriptor yJ1_init.desc).map (fun d => d.parameters.length) = some 0 := by decide +kernel
theorem hv_J1_init : yJ1_init.cls = RJ1 ∧ yJ1_init.cls ≠ "java/lang/invoke/MethodHandle" ∧ yJ1_init.cls ≠ "java/lang/invoke/VarHandle" ∧ (parseMethodDescriptor yJ1_init.desc).map (fun d => d.parameters.length) = some 0 := ⟨rfl, hd_J1_init⟩
set_option maxHeartbeats 4000000 in
set_option maxRecDepth 100000 in
theorem wk_J1_init {X : XC} (O : XOk X cJ1_init RJ1 2 40) (hfl : (xL X).stackTraces = false) (hg : (xG X).2.2.2.2 = zAll (xG X).1.1 (xG X).1.2.2.2 (xG X).2.2.2.1) (hr : (xMeth X).sig.returnType = none) (hm : (xC X).maxLocals = 1) (o : Nat) (s : XS) : Sim X xI (retC X eU xI) 0 [(0, .ref o)] [] s (j1_init o s) := by
  have hzz := O.hst
  rw [hg] at hzz
  unfold j1_init
  refine s_aload_n O 0 rfl rfl dJ1_init_0 ?_
  refine x_callI O (enc2 := eU) (av := []) (rest := []) 0 (fun v0 t0 h0 => mt_J0_init (xL X) (xG X) hfl hg o _ t0 v0 h0) q184 q133 q182 q183 rfl hd_J0_init ⟨Nat.le_of_ble_eq_true rfl, Nat.le_of_ble_eq_true rfl⟩ rfl (Nat.le_of_ble_eq_true rfl) dJ1_init_1 (fun v1 s2 => ?_)
  refine s_aload_n O 0 rfl rfl dJ1_init_4 ?_
  refine s_iconst O (x := 0) (by decide) dJ1_init_5 ?_
  refine x_put O (ci := 7) (T := TJ2) (N := 3) (ty := .int) in_J2 tyJ2 tyJ2_ok nmJ2 rfl 0 (by decide) q192 (fun _ h => h) rfl (by decide +kernel) rfl rfl dJ1_init_6 (fun s3 => ?_)
  exact s_return O hr rfl dJ1_init_9
theorem mt_J1_init (l : Launch) (G : XG) (hfl : l.stackTraces = false) (hg : G.2.2.2.2 = zAll G.1.1 G.1.2.2.2 G.2.2.2.1) (o : Nat) (s t : XS) (v : Unit) (h : j1_init o s = some (v, t)) : xMet l yJ1_init (ws_ yJ1_init cJ1_init 1 none) 2 40 G (xI s) [.ref o] (eU v) (xI t) :=
  xMet_of (E := xI) (enc := eU) (by decide +kernel) (Nat.le_of_ble_eq_true rfl) (fun X hl hG O hr hm => by subst hl; subst hG; exact wk_J1_init O hfl hg hr hm o s) h
theorem hd_J2_init : yJ2_init.cls ≠ "java/lang/invoke/MethodHandle" ∧ yJ2_init.cls ≠ "java/lang/invoke/VarHandle" ∧ (parseMethodDescriptor yJ2_init.desc).map (fun d => d.parameters.length) = some 0 := by decide +kernel
theorem hv_J2_init : yJ2_init.cls = RJ2 ∧ yJ2_init.cls ≠ "java/lang/invoke/MethodHandle" ∧ yJ2_init.cls ≠ "java/lang/invoke/VarHandle" ∧ (parseMethodDescriptor yJ2_init.desc).map (fun d => d.parameters.length) = some 0 := ⟨rfl, hd_J2_init⟩
set_option maxHeartbeats 4000000 in
set_option maxRecDepth 100000 in
theorem wk_J2_init {X : XC} (O : XOk X cJ2_init RJ2 3 60) (hfl : (xL X).stackTraces = false) (hg : (xG X).2.2.2.2 = zAll (xG X).1.1 (xG X).1.2.2.2 (xG X).2.2.2.1) (hr : (xMeth X).sig.returnType = none) (hm : (xC X).maxLocals = 1) (o : Nat) (s : XS) : Sim X xI (retC X eU xI) 0 [(0, .ref o)] [] s (j2_init o s) := by
  have hzz := O.hst
  rw [hg] at hzz
  unfold j2_init
  refine s_aload_n O 0 rfl rfl dJ2_init_0 ?_
  refine x_callI O (enc2 := eU) (av := []) (rest := []) 0 (fun v0 t0 h0 => mt_J1_init (xL X) (xG X) hfl hg o _ t0 v0 h0) q181 q134 q179 q180 rfl hd_J1_init ⟨Nat.le_of_ble_eq_true rfl, Nat.le_of_ble_eq_true rfl⟩ rfl (Nat.le_of_ble_eq_true rfl) dJ2_init_1 (fun v1 s2 => ?_)
  refine s_aload_n O 0 rfl rfl dJ2_init_4 ?_
  refine x_getst O (j := 2) (zs_2 hzz) q186 (fun _ h => h) dJ2_init_5 ?_
  refine s_nmQ (fun r3 => ?_)
  refine x_put O (ci := 7) (T := TJ2) (N := 3) (ty := (.array (.object "java/lang/Object"))) in_J2 tyJ2 tyJ2_ok nmJ2 rfl 1 (by decide) q188 (fun _ h => h) rfl (by decide +kernel) (nmA _ _) (ftA _ _) dJ2_init_8 (fun s4 => ?_)
  exact s_return O hr rfl dJ2_init_11
theorem mt_J2_init (l : Launch) (G : XG) (hfl : l.stackTraces = false) (hg : G.2.2.2.2 = zAll G.1.1 G.1.2.2.2 G.2.2.2.1) (o : Nat) (s t : XS) (v : Unit) (h : j2_init o s = some (v, t)) : xMet l yJ2_init (ws_ yJ2_init cJ2_init 1 none) 3 60 G (xI s) [.ref o] (eU v) (xI t) :=
  xMet_of (E := xI) (enc := eU) (by decide +kernel) (Nat.le_of_ble_eq_true rfl) (fun X hl hG O hr hm => by subst hl; subst hG; exact wk_J2_init O hfl hg hr hm o s) h
theorem hd_X1_init_2 : yX1_init_2.cls ≠ "java/lang/invoke/MethodHandle" ∧ yX1_init_2.cls ≠ "java/lang/invoke/VarHandle" ∧ (parseMethodDescriptor yX1_init_2.desc).map (fun d => d.parameters.length) = some 2 := by decide +kernel
theorem hv_X1_init_2 : yX1_init_2.cls = RX1 ∧ yX1_init_2.cls ≠ "java/lang/invoke/MethodHandle" ∧ yX1_init_2.cls ≠ "java/lang/invoke/VarHandle" ∧ (parseMethodDescriptor yX1_init_2.desc).map (fun d => d.parameters.length) = some 2 := ⟨rfl, hd_X1_init_2⟩
set_option maxHeartbeats 4000000 in
set_option maxRecDepth 100000 in
theorem wk_X1_init_2 {X : XC} (O : XOk X cX1_init_2 RX1 4 80) (hfl : (xL X).stackTraces = false) (hg : (xG X).2.2.2.2 = zAll (xG X).1.1 (xG X).1.2.2.2 (xG X).2.2.2.1) (hr : (xMeth X).sig.returnType = none) (hm : (xC X).maxLocals = 3) (hinit : (xMeth X).name = "<init>") (o : Nat) (x1 : Int32) (x2 : Nat) (s : XS) : Sim X xI (retC X eU xI) 0 [(0, .ref o), (1, .int x1), (2, .ref x2)] [] s (x1_init_2 o x1 x2 s) := by
  have hzz := O.hst
  rw [hg] at hzz
  unfold x1_init_2
  refine s_aload_n O 0 rfl rfl dX1_init_2_0 ?_
  refine x_objInit O q173 q163 q164 ⟨Nat.le_of_ble_eq_true rfl, Nat.le_of_ble_eq_true rfl⟩ (Nat.le_of_ble_eq_true rfl) dX1_init_2_1 ?_
  refine s_aload_n O 0 rfl rfl dX1_init_2_4 ?_
  refine x_new O (ci := 7) (T := TJ2) (N := 3) (fs := dfJ2) in_J2 tyJ2 tyJ2_ok rfl 3 q174 q175 q135 rfl dfJ2_ok dX1_init_2_5 (fun p1 s2 => ?_)
  refine s_dup O rfl dX1_init_2_8 ?_
  refine x_callI O (enc2 := eU) (av := []) (rest := [.ref p1, .ref o]) 0 (fun v0 t0 h0 => mt_J2_init (xL X) (xG X) hfl hg p1 _ t0 v0 h0) q178 q135 q176 q177 rfl hd_J2_init ⟨Nat.le_of_ble_eq_true rfl, Nat.le_of_ble_eq_true rfl⟩ rfl (Nat.le_of_ble_eq_true rfl) dX1_init_2_9 (fun v3 s4 => ?_)
  refine x_putF O (ci := 1) (T := TX1) (N := 6) (ty := (.object "java/util/List")) in_X1 tyX1 tyX1_ok nmX1 rfl 1 (by decide) q207 (fun _ h => h) rfl hinit rfl (by decide +kernel) rfl rfl dX1_init_2_12 (fun s5 => ?_)
  refine s_aload_n O 0 rfl rfl dX1_init_2_15 ?_
  refine s_iconst O (x := 4) (by decide) dX1_init_2_16 ?_
  refine x_newI O q204 dX1_init_2_17 (fun p6 s7 => ?_)
  refine x_putF O (ci := 1) (T := TX1) (N := 6) (ty := (.array .int)) in_X1 tyX1 tyX1_ok nmX1 rfl 5 (by decide) q213 (fun _ h => h) rfl hinit rfl (by decide +kernel) rfl rfl dX1_init_2_19 (fun s8 => ?_)
  refine s_aload_n O 0 rfl rfl dX1_init_2_22 ?_
  refine s_iload_n O 1 rfl rfl dX1_init_2_23 ?_
  refine x_putF O (ci := 1) (T := TX1) (N := 6) (ty := .int) in_X1 tyX1 tyX1_ok nmX1 rfl 0 (by decide) q205 (fun _ h => h) rfl hinit rfl (by decide +kernel) rfl rfl dX1_init_2_24 (fun s9 => ?_)
  refine s_aload_n O 0 rfl rfl dX1_init_2_27 ?_
  refine s_aload_n O 2 rfl rfl dX1_init_2_28 ?_
  refine x_putF O (ci := 1) (T := TX1) (N := 6) (ty := (.array .int)) in_X1 tyX1 tyX1_ok nmX1 rfl 2 (by decide) q209 (fun _ h => h) rfl hinit rfl (by decide +kernel) rfl rfl dX1_init_2_29 (fun s10 => ?_)
  exact s_return O hr rfl dX1_init_2_32
theorem mt_X1_init_2 (l : Launch) (G : XG) (hfl : l.stackTraces = false) (hg : G.2.2.2.2 = zAll G.1.1 G.1.2.2.2 G.2.2.2.1) (o : Nat) (x1 : Int32) (x2 : Nat) (s t : XS) (v : Unit) (h : x1_init_2 o x1 x2 s = some (v, t)) : xMet l yX1_init_2 (ws_ yX1_init_2 cX1_init_2 3 none) 4 80 G (xI s) [.ref o, .int x1, .ref x2] (eU v) (xI t) :=
  xMet_ofN rfl (E := xI) (enc := eU) (by decide +kernel) (Nat.le_of_ble_eq_true rfl) (fun X hl hG O hr hm hinit => by subst hl; subst hG; exact wk_X1_init_2 O hfl hg hr hm hinit o x1 x2 s) h
theorem hd_X1_init : yX1_init.cls ≠ "java/lang/invoke/MethodHandle" ∧ yX1_init.cls ≠ "java/lang/invoke/VarHandle" ∧ (parseMethodDescriptor yX1_init.desc).map (fun d => d.parameters.length) = some 0 := by decide +kernel
theorem hv_X1_init : yX1_init.cls = RX1 ∧ yX1_init.cls ≠ "java/lang/invoke/MethodHandle" ∧ yX1_init.cls ≠ "java/lang/invoke/VarHandle" ∧ (parseMethodDescriptor yX1_init.desc).map (fun d => d.parameters.length) = some 0 := ⟨rfl, hd_X1_init⟩
set_option maxHeartbeats 4000000 in
set_option maxRecDepth 100000 in
theorem wk_X1_init {X : XC} (O : XOk X cX1_init RX1 5 102) (hfl : (xL X).stackTraces = false) (hg : (xG X).2.2.2.2 = zAll (xG X).1.1 (xG X).1.2.2.2 (xG X).2.2.2.1) (hr : (xMeth X).sig.returnType = none) (hm : (xC X).maxLocals = 1) (o : Nat) (s : XS) : Sim X xI (retC X eU xI) 0 [(0, .ref o)] [] s (x1_init o s) := by
  have hzz := O.hst
  rw [hg] at hzz
  unfold x1_init
  refine s_aload_n O 0 rfl rfl dX1_init_0 ?_
  refine s_iconst O (x := 3) (by decide) dX1_init_1 ?_
  refine s_iconst O (x := 0) (by decide) dX1_init_2 ?_
  refine x_newI O q204 dX1_init_3 (fun p1 s2 => ?_)
  refine x_callI O (enc2 := eU) (av := [.int 3, .ref p1]) (rest := []) 2 (fun v0 t0 h0 => mt_X1_init_2 (xL X) (xG X) hfl hg o 3 p1 _ t0 v0 h0) q172 q132 q170 q171 rfl hd_X1_init_2 ⟨Nat.le_of_ble_eq_true rfl, Nat.le_of_ble_eq_true rfl⟩ rfl (Nat.le_of_ble_eq_true rfl) dX1_init_5 (fun v3 s4 => ?_)
  exact s_return O hr rfl dX1_init_8
theorem mt_X1_init (l : Launch) (G : XG) (hfl : l.stackTraces = false) (hg : G.2.2.2.2 = zAll G.1.1 G.1.2.2.2 G.2.2.2.1) (o : Nat) (s t : XS) (v : Unit) (h : x1_init o s = some (v, t)) : xMet l yX1_init (ws_ yX1_init cX1_init 1 none) 5 102 G (xI s) [.ref o] (eU v) (xI t) :=
  xMet_of (E := xI) (enc := eU) (by decide +kernel) (Nat.le_of_ble_eq_true rfl) (fun X hl hG O hr hm => by subst hl; subst hG; exact wk_X1_init O hfl hg hr hm o s) h
theorem hd_X0_init : yX0_init.cls ≠ "java/lang/invoke/MethodHandle" ∧ yX0_init.cls ≠ "java/lang/invoke/VarHandle" ∧ (parseMethodDescriptor yX0_init.desc).map (fun d => d.parameters.length) = some 0 := by decide +kernel
theorem hv_X0_init : yX0_init.cls = RX0 ∧ yX0_init.cls ≠ "java/lang/invoke/MethodHandle" ∧ yX0_init.cls ≠ "java/lang/invoke/VarHandle" ∧ (parseMethodDescriptor yX0_init.desc).map (fun d => d.parameters.length) = some 0 := ⟨rfl, hd_X0_init⟩
set_option maxHeartbeats 4000000 in
set_option maxRecDepth 100000 in
theorem wk_X0_init {X : XC} (O : XOk X cX0_init RX0 6 122) (hfl : (xL X).stackTraces = false) (hg : (xG X).2.2.2.2 = zAll (xG X).1.1 (xG X).1.2.2.2 (xG X).2.2.2.1) (hr : (xMeth X).sig.returnType = none) (hm : (xC X).maxLocals = 1) (hinit : (xMeth X).name = "<init>") (o : Nat) (s : XS) : Sim X xI (retC X eU xI) 0 [(0, .ref o)] [] s (x0_init o s) := by
  have hzz := O.hst
  rw [hg] at hzz
  unfold x0_init
  refine s_aload_n O 0 rfl rfl dX0_init_0 ?_
  refine x_objInit O q162 q163 q164 ⟨Nat.le_of_ble_eq_true rfl, Nat.le_of_ble_eq_true rfl⟩ (Nat.le_of_ble_eq_true rfl) dX0_init_1 ?_
  refine s_aload_n O 0 rfl rfl dX0_init_4 ?_
  refine s_sipush O (x := 1000) (by decide) dX0_init_5 ?_
  refine x_newB O q203 dX0_init_8 (fun p1 s2 => ?_)
  refine x_putF O (ci := 0) (T := TX0) (N := 20) (ty := (.array .byte)) in_X0 tyX0 tyX0_ok nmX0 rfl 0 (by decide) q230 (fun _ h => h) rfl hinit rfl (by decide +kernel) rfl rfl dX0_init_10 (fun s3 => ?_)
  refine s_aload_n O 0 rfl rfl dX0_init_13 ?_
  refine s_iconst O (x := 4) (by decide) dX0_init_14 ?_
  refine x_newI O q204 dX0_init_15 (fun p4 s5 => ?_)
  refine x_putF O (ci := 0) (T := TX0) (N := 20) (ty := (.array .int)) in_X0 tyX0 tyX0_ok nmX0 rfl 2 (by decide) q233 (fun _ h => h) rfl hinit rfl (by decide +kernel) rfl rfl dX0_init_17 (fun s6 => ?_)
  refine s_aload_n O 0 rfl rfl dX0_init_20 ?_
  refine x_new O (ci := 1) (T := TX1) (N := 6) (fs := dfX1) in_X1 tyX1 tyX1_ok rfl 6 q165 q166 q132 rfl dfX1_ok dX0_init_21 (fun p7 s8 => ?_)
  refine s_dup O rfl dX0_init_24 ?_
  refine x_callI O (enc2 := eU) (av := []) (rest := [.ref p7, .ref o]) 0 (fun v0 t0 h0 => mt_X1_init (xL X) (xG X) hfl hg p7 _ t0 v0 h0) q169 q132 q167 q168 rfl hd_X1_init ⟨Nat.le_of_ble_eq_true rfl, Nat.le_of_ble_eq_true rfl⟩ rfl (Nat.le_of_ble_eq_true rfl) dX0_init_25 (fun v9 s10 => ?_)
  refine x_put O (ci := 0) (T := TX0) (N := 20) (ty := (.object "QuotientRows$State")) in_X0 tyX0 tyX0_ok nmX0 rfl 3 (by decide) q234 (fun _ h => h) rfl (by decide +kernel) rfl rfl dX0_init_28 (fun s11 => ?_)
  refine s_aload_n O 0 rfl rfl dX0_init_31 ?_
  refine s_iconst O (x := (-1)) (by decide) dX0_init_32 ?_
  refine x_put O (ci := 0) (T := TX0) (N := 20) (ty := .int) in_X0 tyX0 tyX0_ok nmX0 rfl 5 (by decide) q236 (fun _ h => h) rfl (by decide +kernel) rfl rfl dX0_init_33 (fun s12 => ?_)
  refine s_aload_n O 0 rfl rfl dX0_init_36 ?_
  refine x_new O (ci := 7) (T := TJ2) (N := 3) (fs := dfJ2) in_J2 tyJ2 tyJ2_ok rfl 3 q227 q175 q135 rfl dfJ2_ok dX0_init_37 (fun p13 s14 => ?_)
  refine s_dup O rfl dX0_init_40 ?_
  refine x_callI O (enc2 := eU) (av := []) (rest := [.ref p13, .ref o]) 0 (fun v0 t0 h0 => mt_J2_init (xL X) (xG X) hfl hg p13 _ t0 v0 h0) q178 q135 q228 q177 rfl hd_J2_init ⟨Nat.le_of_ble_eq_true rfl, Nat.le_of_ble_eq_true rfl⟩ rfl (Nat.le_of_ble_eq_true rfl) dX0_init_41 (fun v15 s16 => ?_)
  refine x_putF O (ci := 0) (T := TX0) (N := 20) (ty := (.object "java/util/List")) in_X0 tyX0 tyX0_ok nmX0 rfl 6 (by decide) q237 (fun _ h => h) rfl hinit rfl (by decide +kernel) rfl rfl dX0_init_44 (fun s17 => ?_)
  refine s_aload_n O 0 rfl rfl dX0_init_47 ?_
  refine s_iconst O (x := 4) (by decide) dX0_init_48 ?_
  refine x_newI O q204 dX0_init_49 (fun p18 s19 => ?_)
  refine x_putF O (ci := 0) (T := TX0) (N := 20) (ty := (.array .int)) in_X0 tyX0 tyX0_ok nmX0 rfl 10 (by decide) q241 (fun _ h => h) rfl hinit rfl (by decide +kernel) rfl rfl dX0_init_51 (fun s20 => ?_)
  refine s_aload_n O 0 rfl rfl dX0_init_54 ?_
  refine s_iconst O (x := 0) (by decide) dX0_init_55 ?_
  refine x_newI O q204 dX0_init_56 (fun p21 s22 => ?_)
  refine x_put O (ci := 0) (T := TX0) (N := 20) (ty := (.array .int)) in_X0 tyX0 tyX0_ok nmX0 rfl 14 (by decide) q245 (fun _ h => h) rfl (by decide +kernel) rfl rfl dX0_init_58 (fun s23 => ?_)
  refine s_aload_n O 0 rfl rfl dX0_init_61 ?_
  refine s_iconst O (x := 4) (by decide) dX0_init_62 ?_
  refine x_newI O q204 dX0_init_63 (fun p24 s25 => ?_)
  refine x_putF O (ci := 0) (T := TX0) (N := 20) (ty := (.array .int)) in_X0 tyX0 tyX0_ok nmX0 rfl 15 (by decide) q246 (fun _ h => h) rfl hinit rfl (by decide +kernel) rfl rfl dX0_init_65 (fun s26 => ?_)
  refine s_aload_n O 0 rfl rfl dX0_init_68 ?_
  refine s_bipush O (x := 100) (by decide) dX0_init_69 ?_
  refine x_newI O q204 dX0_init_71 (fun p27 s28 => ?_)
  refine x_putF O (ci := 0) (T := TX0) (N := 20) (ty := (.array .int)) in_X0 tyX0 tyX0_ok nmX0 rfl 16 (by decide) q247 (fun _ h => h) rfl hinit rfl (by decide +kernel) rfl rfl dX0_init_73 (fun s29 => ?_)
  refine s_aload_n O 0 rfl rfl dX0_init_76 ?_
  refine s_bipush O (x := 100) (by decide) dX0_init_77 ?_
  refine x_newI O q204 dX0_init_79 (fun p30 s31 => ?_)
  refine x_putF O (ci := 0) (T := TX0) (N := 20) (ty := (.array .int)) in_X0 tyX0 tyX0_ok nmX0 rfl 17 (by decide) q248 (fun _ h => h) rfl hinit rfl (by decide +kernel) rfl rfl dX0_init_81 (fun s32 => ?_)
  refine s_aload_n O 0 rfl rfl dX0_init_84 ?_
  refine s_iconst O (x := 3) (by decide) dX0_init_85 ?_
  refine x_newR O (t := 5) rfl q165 (zo_1 hzz) dX0_init_86 (fun p33 s34 => ?_)
  refine x_putF O (ci := 0) (T := TX0) (N := 20) (ty := (.array (.object "QuotientRows$State"))) in_X0 tyX0 tyX0_ok nmX0 rfl 19 (by decide) q250 (fun _ h => h) rfl hinit rfl (by decide +kernel) rfl rfl dX0_init_89 (fun s35 => ?_)
  exact s_return O hr rfl dX0_init_92
theorem mt_X0_init (l : Launch) (G : XG) (hfl : l.stackTraces = false) (hg : G.2.2.2.2 = zAll G.1.1 G.1.2.2.2 G.2.2.2.1) (o : Nat) (s t : XS) (v : Unit) (h : x0_init o s = some (v, t)) : xMet l yX0_init (ws_ yX0_init cX0_init 1 none) 6 122 G (xI s) [.ref o] (eU v) (xI t) :=
  xMet_ofN rfl (E := xI) (enc := eU) (by decide +kernel) (Nat.le_of_ble_eq_true rfl) (fun X hl hG O hr hm hinit => by subst hl; subst hG; exact wk_X0_init O hfl hg hr hm hinit o s) h
theorem hd_X0_puts : yX0_puts.cls ≠ "java/lang/invoke/MethodHandle" ∧ yX0_puts.cls ≠ "java/lang/invoke/VarHandle" ∧ (parseMethodDescriptor yX0_puts.desc).map (fun d => d.parameters.length) = some 1 := by decide +kernel
theorem hv_X0_puts : yX0_puts.cls = RX0 ∧ yX0_puts.cls ≠ "java/lang/invoke/MethodHandle" ∧ yX0_puts.cls ≠ "java/lang/invoke/VarHandle" ∧ (parseMethodDescriptor yX0_puts.desc).map (fun d => d.parameters.length) = some 1 := ⟨rfl, hd_X0_puts⟩
theorem hu_X0_puts : yX0_puts.name ≠ "<init>" ∧ (parseMethodDescriptor yX0_puts.desc).map (fun d => d.parameters.length) = some 1 := ⟨by decide +kernel, hd_X0_puts.2.2⟩
set_option maxHeartbeats 4000000 in
set_option maxRecDepth 100000 in
theorem wk_X0_puts {X : XC} (O : XOk X cX0_puts RX0 0 0) (hfl : (xL X).stackTraces = false) (hg : (xG X).2.2.2.2 = zAll (xG X).1.1 (xG X).1.2.2.2 (xG X).2.2.2.1) (hr : (xMeth X).sig.returnType = none) (hm : (xC X).maxLocals = 7) (o : Nat) (x1 : Nat) (s : XS) : Sim X xI (retC X eU xI) 0 [(0, .ref o), (1, .ref x1)] [] s (x0_puts o x1 s) := by
  have hzz := O.hst
  rw [hg] at hzz
  unfold x0_puts
  refine s_aload_n O 1 rfl rfl dX0_puts_0 ?_
  refine s_astore_n O (L' := [(2, .ref x1), (0, .ref o), (1, .ref x1)]) hm (by decide) rfl rfl dX0_puts_1 ?_
  refine s_aload_n O 0 rfl rfl dX0_puts_2 ?_
  refine x_alen O dX0_puts_3 (fun u1 => ?_)
  refine s_istore_n O (L' := [(3, .int u1), (2, .ref x1), (0, .ref o), (1, .ref x1)]) hm (by decide) rfl rfl dX0_puts_4 ?_
  refine s_iconst O (x := 0) (by decide) dX0_puts_5 ?_
  refine s_istore O (L' := [(4, .int 0), (3, .int u1), (2, .ref x1), (0, .ref o), (1, .ref x1)]) hm (by decide) rfl dX0_puts_6 ?_
  refine Sim.sub (L' := [(0, .ref o), (2, .ref x1), (3, .int u1), (4, .int 0)]) [3, 2, 1, 0] rfl ?_
  refine s_while (A := Int32) (B := Unit) (La := fun a8 => [(0, .ref o), (2, .ref x1), (3, .int u1), (4, .int a8)]) (We := fun b8 s13 => xWX X 66 [] [] ((xI) s13)) rfl rfl ?_ ?_
  · intro Cl hn he a8 s2
    unfold x0_puts_s8
    refine s_iload O 3 rfl dX0_puts_8 ?_
    refine s_iload_n O 2 rfl rfl dX0_puts_10 ?_
    refine s_icmp_ge O (tgt := 66) dX0_puts_11 (by decide) ?_ ?_
    · refine Sim.sub (L' := []) [] rfl ?_
      exact Sim.ret (he _ _)
    · refine s_aload_n O 1 rfl rfl dX0_puts_14 ?_
      refine s_iload O 3 rfl dX0_puts_15 ?_
      refine x_iald O dX0_puts_17 (fun u3 => ?_)
      refine s_istore O (L' := [(5, .int u3), (0, .ref o), (2, .ref x1), (3, .int u1), (4, .int a8)]) hm (by decide) rfl dX0_puts_18 ?_
      refine s_bipush O (x := 24) (by decide) dX0_puts_20 ?_
      refine s_istore O (L' := [(6, .int 24), (5, .int u3), (0, .ref o), (2, .ref x1), (3, .int u1), (4, .int a8)]) hm (by decide) rfl dX0_puts_22 ?_
      refine Sim.sub (L' := [(0, .ref o), (2, .ref x1), (3, .int u1), (4, .int a8), (5, .int u3), (6, .int 24)]) [2, 3, 4, 5, 1, 0] rfl ?_
      refine s_while (A := Int32) (B := Unit) (La := fun a24 => [(0, .ref o), (2, .ref x1), (3, .int u1), (4, .int a8), (5, .int u3), (6, .int a24)]) (We := fun b24 s12 => xWX X 60 [(0, .ref o), (2, .ref x1), (3, .int u1), (4, .int a8)] [] ((xI) s12)) rfl rfl ?_ ?_
      · intro Cl hn he a24 s4
        unfold x0_puts_s24
        refine s_iload O 5 rfl dX0_puts_24 ?_
        refine s_if_lt O (tgt := 60) dX0_puts_26 (by decide) ?_ ?_
        · refine Sim.sub (L' := [(0, .ref o), (2, .ref x1), (3, .int u1), (4, .int a8)]) [0, 1, 2, 3] rfl ?_
          exact Sim.ret (he _ _)
        · refine s_aload_n O 0 rfl rfl dX0_puts_29 ?_
          refine x_get O (ci := 0) (T := TX0) (N := 20) in_X0 rfl 0 (by decide) q230 (fun _ h => h) dX0_puts_30 (fun v0 => ?_)
          refine s_vR (fun r5 => ?_)
          refine s_aload_n O 0 rfl rfl dX0_puts_33 ?_
          refine x_get O (ci := 0) (T := TX0) (N := 20) in_X0 rfl 1 (by decide) q232 (fun _ h => h) dX0_puts_34 (fun v0 => ?_)
          refine s_vI (fun u6 => ?_)
          refine s_iload O 4 rfl dX0_puts_37 ?_
          refine s_iload O 5 rfl dX0_puts_39 ?_
          refine s_ishr O dX0_puts_41 ?_
          refine s_i2b O dX0_puts_42 ?_
          refine s_dr (fun p7 hp8 => ?_)
          subst hp8
          refine x_bast O dX0_puts_43 (fun s9 => ?_)
          refine s_aload_n O 0 rfl rfl dX0_puts_44 ?_
          refine s_dup O rfl dX0_puts_45 ?_
          refine x_get O (ci := 0) (T := TX0) (N := 20) in_X0 rfl 1 (by decide) q232 (fun _ h => h) dX0_puts_46 (fun v0 => ?_)
          refine s_vI (fun u10 => ?_)
          refine s_iconst O (x := 1) (by decide) dX0_puts_49 ?_
          refine s_iadd O dX0_puts_50 ?_
          refine x_put O (ci := 0) (T := TX0) (N := 20) (ty := .int) in_X0 tyX0 tyX0_ok nmX0 rfl 1 (by decide) q232 (fun _ h => h) rfl (by decide +kernel) rfl rfl dX0_puts_51 (fun s11 => ?_)
          refine s_iinc O (y := (a24 + (-8))) (L' := [(6, .int (a24 + (-8))), (0, .ref o), (2, .ref x1), (3, .int u1), (4, .int a8), (5, .int u3)]) 5 rfl hm (by decide) (congrArg (HAdd.hAdd a24) (by decide)) rfl dX0_puts_54 ?_
          refine s_goto O (tgt := 24) dX0_puts_57 (by decide) ?_
          refine Sim.sub (L' := [(0, .ref o), (2, .ref x1), (3, .int u1), (4, .int a8), (5, .int u3), (6, .int (a24 + (-8)))]) [1, 2, 3, 4, 5, 0] rfl ?_
          exact Sim.ret (hn _ _)
      · intro b24 s12
        show Sim X (xI) Cl 60 [(0, .ref o), (2, .ref x1), (3, .int u1), (4, .int a8)] [] s12 _
        refine s_iinc O (y := (a8 + 1)) (L' := [(4, .int (a8 + 1)), (0, .ref o), (2, .ref x1), (3, .int u1)]) 3 rfl hm (by decide) rfl rfl dX0_puts_60 ?_
        refine s_goto O (tgt := 8) dX0_puts_63 (by decide) ?_
        refine Sim.sub (L' := [(0, .ref o), (2, .ref x1), (3, .int u1), (4, .int (a8 + 1))]) [1, 2, 3, 0] rfl ?_
        exact Sim.ret (hn _ _)
  · intro b8 s13
    show Sim X (xI) (retC X eU xI) 66 [] [] s13 _
    exact s_return O hr rfl dX0_puts_66
theorem mt_X0_puts (l : Launch) (G : XG) (hfl : l.stackTraces = false) (hg : G.2.2.2.2 = zAll G.1.1 G.1.2.2.2 G.2.2.2.1) (o : Nat) (x1 : Nat) (s t : XS) (v : Unit) (h : x0_puts o x1 s = some (v, t)) : xMet l yX0_puts (ws_ yX0_puts cX0_puts 7 none) 0 0 G (xI s) [.ref o, .ref x1] (eU v) (xI t) :=
  xMet_of (E := xI) (enc := eU) (by decide +kernel) (Nat.le_of_ble_eq_true rfl) (fun X hl hG O hr hm => by subst hl; subst hG; exact wk_X0_puts O hfl hg hr hm o x1 s) h
theorem hd_X0_refused : yX0_refused.cls ≠ "java/lang/invoke/MethodHandle" ∧ yX0_refused.cls ≠ "java/lang/invoke/VarHandle" ∧ (parseMethodDescriptor yX0_refused.desc).map (fun d => d.parameters.length) = some 1 := by decide +kernel
theorem hv_X0_refused : yX0_refused.cls = RX0 ∧ yX0_refused.cls ≠ "java/lang/invoke/MethodHandle" ∧ yX0_refused.cls ≠ "java/lang/invoke/VarHandle" ∧ (parseMethodDescriptor yX0_refused.desc).map (fun d => d.parameters.length) = some 1 := ⟨rfl, hd_X0_refused⟩
theorem hu_X0_refused : yX0_refused.name ≠ "<init>" ∧ (parseMethodDescriptor yX0_refused.desc).map (fun d => d.parameters.length) = some 1 := ⟨by decide +kernel, hd_X0_refused.2.2⟩
set_option maxHeartbeats 4000000 in
set_option maxRecDepth 100000 in
theorem wk_X0_refused {X : XC} (O : XOk X cX0_refused RX0 0 0) (hfl : (xL X).stackTraces = false) (hg : (xG X).2.2.2.2 = zAll (xG X).1.1 (xG X).1.2.2.2 (xG X).2.2.2.1) (hr : (xMeth X).sig.returnType = (some .int)) (hm : (xC X).maxLocals = 2) (o : Nat) (x1 : Int32) (s : XS) : Sim X xI (retC X eI xI) 0 [(0, .ref o), (1, .int x1)] [] s (x0_refused o x1 s) := by
  have hzz := O.hst
  rw [hg] at hzz
  unfold x0_refused
  refine s_aload_n O 0 rfl rfl dX0_refused_0 ?_
  refine x_get O (ci := 0) (T := TX0) (N := 20) in_X0 rfl 2 (by decide) q233 (fun _ h => h) dX0_refused_1 (fun v0 => ?_)
  refine s_vR (fun r1 => ?_)
  refine s_iload_n O 1 rfl rfl dX0_refused_4 ?_
  refine s_dup2 O rfl (va_cat _) dX0_refused_5 ?_
  refine s_dr (fun p2 hp3 => ?_)
  subst hp3
  refine x_iald O dX0_refused_6 (fun u4 => ?_)
  refine s_iconst O (x := 1) (by decide) dX0_refused_7 ?_
  refine s_iadd O dX0_refused_8 ?_
  refine x_iast O dX0_refused_9 (fun s5 => ?_)
  refine s_iconst O (x := (-1)) (by decide) dX0_refused_10 ?_
  exact s_ireturn O hr rfl dX0_refused_11
theorem mt_X0_refused (l : Launch) (G : XG) (hfl : l.stackTraces = false) (hg : G.2.2.2.2 = zAll G.1.1 G.1.2.2.2 G.2.2.2.1) (o : Nat) (x1 : Int32) (s t : XS) (v : Int32) (h : x0_refused o x1 s = some (v, t)) : xMet l yX0_refused (ws_ yX0_refused cX0_refused 2 (some .int)) 0 0 G (xI s) [.ref o, .int x1] (eI v) (xI t) :=
  xMet_of (E := xI) (enc := eI) (by decide +kernel) (Nat.le_of_ble_eq_true rfl) (fun X hl hG O hr hm => by subst hl; subst hG; exact wk_X0_refused O hfl hg hr hm o x1 s) h
theorem hd_X0_feed : yX0_feed.cls ≠ "java/lang/invoke/MethodHandle" ∧ yX0_feed.cls ≠ "java/lang/invoke/VarHandle" ∧ (parseMethodDescriptor yX0_feed.desc).map (fun d => d.parameters.length) = some 5 := by decide +kernel
theorem hv_X0_feed : yX0_feed.cls = RX0 ∧ yX0_feed.cls ≠ "java/lang/invoke/MethodHandle" ∧ yX0_feed.cls ≠ "java/lang/invoke/VarHandle" ∧ (parseMethodDescriptor yX0_feed.desc).map (fun d => d.parameters.length) = some 5 := ⟨rfl, hd_X0_feed⟩
theorem hu_X0_feed : yX0_feed.name ≠ "<init>" ∧ (parseMethodDescriptor yX0_feed.desc).map (fun d => d.parameters.length) = some 5 := ⟨by decide +kernel, hd_X0_feed.2.2⟩
set_option maxHeartbeats 4000000 in
set_option maxRecDepth 100000 in
theorem wk_X0_feed {X : XC} (O : XOk X cX0_feed RX0 1 26) (hfl : (xL X).stackTraces = false) (hg : (xG X).2.2.2.2 = zAll (xG X).1.1 (xG X).1.2.2.2 (xG X).2.2.2.1) (hr : (xMeth X).sig.returnType = (some .int)) (hm : (xC X).maxLocals = 6) (o : Nat) (x1 : Int32) (x2 : Int32) (x3 : Int32) (x4 : Int32) (x5 : Int32) (s : XS) : Sim X xI (retC X eI xI) 0 [(0, .ref o), (1, .int x1), (2, .int x2), (3, .int x3), (4, .int x4), (5, .int x5)] [] s (x0_feed o x1 x2 x3 x4 x5 s) := by
  have hzz := O.hst
  rw [hg] at hzz
  unfold x0_feed
  refine s_aload_n O 0 rfl rfl dX0_feed_0 ?_
  refine x_get O (ci := 0) (T := TX0) (N := 20) in_X0 rfl 1 (by decide) q232 (fun _ h => h) dX0_feed_1 (fun v0 => ?_)
  refine s_vI (fun u1 => ?_)
  refine s_bipush O (x := 20) (by decide) dX0_feed_4 ?_
  refine s_iadd O dX0_feed_6 ?_
  refine s_sipush O (x := 1000) (by decide) dX0_feed_7 ?_
  refine s_icmp_le O (tgt := 19) dX0_feed_10 (by decide) ?_ ?_
  · refine s_aload_n O 0 rfl rfl dX0_feed_19 ?_
    refine s_iconst O (x := 5) (by decide) dX0_feed_20 ?_
    refine x_newI O q204 dX0_feed_21 (fun p2 s3 => ?_)
    refine s_dup O rfl dX0_feed_23 ?_
    refine s_iconst O (x := 0) (by decide) dX0_feed_24 ?_
    refine s_iload_n O 1 rfl rfl dX0_feed_25 ?_
    refine x_iast O dX0_feed_26 (fun s4 => ?_)
    refine s_dup O rfl dX0_feed_27 ?_
    refine s_iconst O (x := 1) (by decide) dX0_feed_28 ?_
    refine s_iload_n O 2 rfl rfl dX0_feed_29 ?_
    refine x_iast O dX0_feed_30 (fun s5 => ?_)
    refine s_dup O rfl dX0_feed_31 ?_
    refine s_iconst O (x := 2) (by decide) dX0_feed_32 ?_
    refine s_iload_n O 3 rfl rfl dX0_feed_33 ?_
    refine x_iast O dX0_feed_34 (fun s6 => ?_)
    refine s_dup O rfl dX0_feed_35 ?_
    refine s_iconst O (x := 3) (by decide) dX0_feed_36 ?_
    refine s_iload O 4 rfl dX0_feed_37 ?_
    refine x_iast O dX0_feed_39 (fun s7 => ?_)
    refine s_dup O rfl dX0_feed_40 ?_
    refine s_iconst O (x := 4) (by decide) dX0_feed_41 ?_
    refine s_iload O 5 rfl dX0_feed_42 ?_
    refine x_iast O dX0_feed_44 (fun s8 => ?_)
    refine x_callV O (enc2 := eU) (ci := 0) (av := [.ref p2]) (rest := []) 1 (fun v0 t0 h0 => mt_X0_puts (xL X) (xG X) hfl hg o p2 _ t0 v0 h0) (lw_V q300 q302 qs1 q131 q303) hv_X0_puts ⟨Nat.le_of_ble_eq_true rfl, Nat.le_of_ble_eq_true rfl⟩ rfl rfl (Nat.le_of_ble_eq_true rfl) dX0_feed_45 (fun v9 s10 => ?_)
    refine s_aload_n O 0 rfl rfl dX0_feed_48 ?_
    refine x_get O (ci := 0) (T := TX0) (N := 20) in_X0 rfl 1 (by decide) q232 (fun _ h => h) dX0_feed_49 (fun v0 => ?_)
    refine s_vI (fun u11 => ?_)
    exact s_ireturn O hr rfl dX0_feed_52
  · refine s_aload_n O 0 rfl rfl dX0_feed_13 ?_
    refine s_iconst O (x := 0) (by decide) dX0_feed_14 ?_
    refine x_callV O (enc2 := eI) (ci := 0) (av := [.int 0]) (rest := []) 1 (fun v0 t0 h0 => mt_X0_refused (xL X) (xG X) hfl hg o 0 _ t0 v0 h0) (lw_V q296 q298 qs0 q131 q299) hv_X0_refused ⟨Nat.le_of_ble_eq_true rfl, Nat.le_of_ble_eq_true rfl⟩ rfl rfl (Nat.le_of_ble_eq_true rfl) dX0_feed_15 (fun v12 s13 => ?_)
    exact s_ireturn O hr rfl dX0_feed_18
theorem mt_X0_feed (l : Launch) (G : XG) (hfl : l.stackTraces = false) (hg : G.2.2.2.2 = zAll G.1.1 G.1.2.2.2 G.2.2.2.1) (o : Nat) (x1 : Int32) (x2 : Int32) (x3 : Int32) (x4 : Int32) (x5 : Int32) (s t : XS) (v : Int32) (h : x0_feed o x1 x2 x3 x4 x5 s = some (v, t)) : xMet l yX0_feed (ws_ yX0_feed cX0_feed 6 (some .int)) 1 26 G (xI s) [.ref o, .int x1, .int x2, .int x3, .int x4, .int x5] (eI v) (xI t) :=
  xMet_of (E := xI) (enc := eI) (by decide +kernel) (Nat.le_of_ble_eq_true rfl) (fun X hl hG O hr hm => by subst hl; subst hG; exact wk_X0_feed O hfl hg hr hm o x1 x2 x3 x4 x5 s) h
theorem hd_X0_refuses : yX0_refuses.cls ≠ "java/lang/invoke/MethodHandle" ∧ yX0_refuses.cls ≠ "java/lang/invoke/VarHandle" ∧ (parseMethodDescriptor yX0_refuses.desc).map (fun d => d.parameters.length) = some 1 := by decide +kernel
theorem hv_X0_refuses : yX0_refuses.cls = RX0 ∧ yX0_refuses.cls ≠ "java/lang/invoke/MethodHandle" ∧ yX0_refuses.cls ≠ "java/lang/invoke/VarHandle" ∧ (parseMethodDescriptor yX0_refuses.desc).map (fun d => d.parameters.length) = some 1 := ⟨rfl, hd_X0_refuses⟩
theorem hu_X0_refuses : yX0_refuses.name ≠ "<init>" ∧ (parseMethodDescriptor yX0_refuses.desc).map (fun d => d.parameters.length) = some 1 := ⟨by decide +kernel, hd_X0_refuses.2.2⟩
set_option maxHeartbeats 4000000 in
set_option maxRecDepth 100000 in
theorem wk_X0_refuses {X : XC} (O : XOk X cX0_refuses RX0 1 21) (hfl : (xL X).stackTraces = false) (hg : (xG X).2.2.2.2 = zAll (xG X).1.1 (xG X).1.2.2.2 (xG X).2.2.2.1) (hr : (xMeth X).sig.returnType = (some .boolean)) (hm : (xC X).maxLocals = 2) (o : Nat) (x1 : Int32) (s : XS) : Sim X xI (retC X eI xI) 0 [(0, .ref o), (1, .int x1)] [] s (x0_refuses o x1 s) := by
  have hzz := O.hst
  rw [hg] at hzz
  unfold x0_refuses
  refine s_aload_n O 0 rfl rfl dX0_refuses_0 ?_
  refine s_iload_n O 1 rfl rfl dX0_refuses_1 ?_
  refine x_callV O (enc2 := eI) (ci := 0) (av := [.int x1]) (rest := []) 1 (fun v0 t0 h0 => mt_X0_refused (xL X) (xG X) hfl hg o x1 _ t0 v0 h0) (lw_V q296 q298 qs0 q131 q299) hv_X0_refused ⟨Nat.le_of_ble_eq_true rfl, Nat.le_of_ble_eq_true rfl⟩ rfl rfl (Nat.le_of_ble_eq_true rfl) dX0_refuses_2 (fun v1 s2 => ?_)
  refine s_iconst O (x := (-1)) (by decide) dX0_refuses_5 ?_
  refine s_icmp_eq O (tgt := 13) dX0_refuses_6 (by decide) ?_ ?_
  · refine s_iconst O (x := 0) (by decide) dX0_refuses_13 ?_
    exact s_zreturnK O hr rfl rfl dX0_refuses_14
  · refine s_iconst O (x := 1) (by decide) dX0_refuses_9 ?_
    refine s_goto O (tgt := 14) dX0_refuses_10 (by decide) ?_
    exact s_zreturnK O hr rfl rfl dX0_refuses_14
theorem mt_X0_refuses (l : Launch) (G : XG) (hfl : l.stackTraces = false) (hg : G.2.2.2.2 = zAll G.1.1 G.1.2.2.2 G.2.2.2.1) (o : Nat) (x1 : Int32) (s t : XS) (v : Int32) (h : x0_refuses o x1 s = some (v, t)) : xMet l yX0_refuses (ws_ yX0_refuses cX0_refuses 2 (some .boolean)) 1 21 G (xI s) [.ref o, .int x1] (eI v) (xI t) :=
  xMet_of (E := xI) (enc := eI) (by decide +kernel) (Nat.le_of_ble_eq_true rfl) (fun X hl hG O hr hm => by subst hl; subst hG; exact wk_X0_refuses O hfl hg hr hm o x1 s) h
theorem hd_X0_end : yX0_end.cls ≠ "java/lang/invoke/MethodHandle" ∧ yX0_end.cls ≠ "java/lang/invoke/VarHandle" ∧ (parseMethodDescriptor yX0_end.desc).map (fun d => d.parameters.length) = some 1 := by decide +kernel
theorem hv_X0_end : yX0_end.cls = RX0 ∧ yX0_end.cls ≠ "java/lang/invoke/MethodHandle" ∧ yX0_end.cls ≠ "java/lang/invoke/VarHandle" ∧ (parseMethodDescriptor yX0_end.desc).map (fun d => d.parameters.length) = some 1 := ⟨rfl, hd_X0_end⟩
theorem hu_X0_end : yX0_end.name ≠ "<init>" ∧ (parseMethodDescriptor yX0_end.desc).map (fun d => d.parameters.length) = some 1 := ⟨by decide +kernel, hd_X0_end.2.2⟩
set_option maxHeartbeats 4000000 in
set_option maxRecDepth 100000 in
theorem wk_X0_end {X : XC} (O : XOk X cX0_end RX0 2 42) (hfl : (xL X).stackTraces = false) (hg : (xG X).2.2.2.2 = zAll (xG X).1.1 (xG X).1.2.2.2 (xG X).2.2.2.1) (hr : (xMeth X).sig.returnType = (some .boolean)) (hm : (xC X).maxLocals = 2) (o : Nat) (x1 : Int32) (s : XS) : Sim X xI (retC X eI xI) 0 [(0, .ref o), (1, .int x1)] [] s (x0_end o x1 s) := by
  have hzz := O.hst
  rw [hg] at hzz
  unfold x0_end
  refine s_iload_n O 1 rfl rfl dX0_end_0 ?_
  refine s_if_lt O (tgt := 12) dX0_end_1 (by decide) ?_ ?_
  · refine s_aload_n O 0 rfl rfl dX0_end_12 ?_
    refine s_iconst O (x := 0) (by decide) dX0_end_13 ?_
    refine x_callV O (enc2 := eI) (ci := 0) (av := [.int 0]) (rest := []) 1 (fun v0 t0 h0 => mt_X0_refuses (xL X) (xG X) hfl hg o 0 _ t0 v0 h0) (lw_V q308 q310 qs2 q131 q311) hv_X0_refuses ⟨Nat.le_of_ble_eq_true rfl, Nat.le_of_ble_eq_true rfl⟩ rfl rfl (Nat.le_of_ble_eq_true rfl) dX0_end_14 (fun v1 s2 => ?_)
    exact s_zretB O hr rfl dX0_end_17
  · refine s_iload_n O 1 rfl rfl dX0_end_4 ?_
    refine s_aload_n O 0 rfl rfl dX0_end_5 ?_
    refine x_get O (ci := 0) (T := TX0) (N := 20) in_X0 rfl 1 (by decide) q232 (fun _ h => h) dX0_end_6 (fun v0 => ?_)
    refine s_vI (fun u3 => ?_)
    refine s_icmp_le O (tgt := 18) dX0_end_9 (by decide) ?_ ?_
    · refine s_aload_n O 0 rfl rfl dX0_end_18 ?_
      refine s_iload_n O 1 rfl rfl dX0_end_19 ?_
      refine x_put O (ci := 0) (T := TX0) (N := 20) (ty := .int) in_X0 tyX0 tyX0_ok nmX0 rfl 1 (by decide) q232 (fun _ h => h) rfl (by decide +kernel) rfl rfl dX0_end_20 (fun s4 => ?_)
      refine s_iconst O (x := 1) (by decide) dX0_end_23 ?_
      exact s_zreturnK O hr rfl rfl dX0_end_24
    · refine s_aload_n O 0 rfl rfl dX0_end_12 ?_
      refine s_iconst O (x := 0) (by decide) dX0_end_13 ?_
      refine x_callV O (enc2 := eI) (ci := 0) (av := [.int 0]) (rest := []) 1 (fun v0 t0 h0 => mt_X0_refuses (xL X) (xG X) hfl hg o 0 _ t0 v0 h0) (lw_V q308 q310 qs2 q131 q311) hv_X0_refuses ⟨Nat.le_of_ble_eq_true rfl, Nat.le_of_ble_eq_true rfl⟩ rfl rfl (Nat.le_of_ble_eq_true rfl) dX0_end_14 (fun v5 s6 => ?_)
      exact s_zretB O hr rfl dX0_end_17
theorem mt_X0_end (l : Launch) (G : XG) (hfl : l.stackTraces = false) (hg : G.2.2.2.2 = zAll G.1.1 G.1.2.2.2 G.2.2.2.1) (o : Nat) (x1 : Int32) (s t : XS) (v : Int32) (h : x0_end o x1 s = some (v, t)) : xMet l yX0_end (ws_ yX0_end cX0_end 2 (some .boolean)) 2 42 G (xI s) [.ref o, .int x1] (eI v) (xI t) :=
  xMet_of (E := xI) (enc := eI) (by decide +kernel) (Nat.le_of_ble_eq_true rfl) (fun X hl hG O hr hm => by subst hl; subst hG; exact wk_X0_end O hfl hg hr hm o x1 s) h
theorem hd_X0_isIn : yX0_isIn.cls ≠ "java/lang/invoke/MethodHandle" ∧ yX0_isIn.cls ≠ "java/lang/invoke/VarHandle" ∧ (parseMethodDescriptor yX0_isIn.desc).map (fun d => d.parameters.length) = some 3 := by decide +kernel
set_option maxHeartbeats 4000000 in
set_option maxRecDepth 100000 in
theorem wk_X0_isIn {X : XC} {w0 : XS} (O : XOk X cX0_isIn RX0 0 0) (hr : (xMeth X).sig.returnType = some .boolean) (hm : (xC X).maxLocals = 6) (x0 : Int64) (x2 : Int64) (x4 : Int64) (s : Unit) : Sim X (fun _ : Unit => w0) (retC X eI (fun _ : Unit => w0)) 0 [(0, .long x0), (2, .long x2), (4, .long x4)] [] s (x0_isIn x0 x2 x4 s) := by
  unfold x0_isIn
  refine s_lload_n O 0 rfl rfl dX0_isIn_0 ?_
  refine s_lload_n O 1 rfl rfl dX0_isIn_1 ?_
  refine s_lcmp_lt O (tgt := 17) dX0_isIn_2 dX0_isIn_3 (by decide) ?_ ?_
  · refine s_iconst O (x := 0) (by decide) dX0_isIn_17 ?_
    exact s_zreturnK O hr rfl rfl dX0_isIn_18
  · refine s_lload_n O 0 rfl rfl dX0_isIn_6 ?_
    refine s_lload O 2 rfl dX0_isIn_7 ?_
    refine s_lcmp_gt O (tgt := 17) dX0_isIn_9 dX0_isIn_10 (by decide) ?_ ?_
    · refine s_iconst O (x := 0) (by decide) dX0_isIn_17 ?_
      exact s_zreturnK O hr rfl rfl dX0_isIn_18
    · refine s_iconst O (x := 1) (by decide) dX0_isIn_13 ?_
      refine s_goto O (tgt := 18) dX0_isIn_14 (by decide) ?_
      exact s_zreturnK O hr rfl rfl dX0_isIn_18
theorem mt_X0_isIn (l : Launch) (G : XG) (w0 : XS) (x0 : Int64) (x2 : Int64) (x4 : Int64) (v : Int32) (h : x0_isIn x0 x2 x4 () = some (v, ())) : xMet l yX0_isIn (ws_ yX0_isIn cX0_isIn 6 (some .boolean)) 0 0 G w0 [.long x0, .long x2, .long x4] (eI v) w0 :=
  xMet_of (E := fun _ : Unit => w0) (enc := eI) (t := ()) (by decide +kernel) (Nat.le_of_ble_eq_true rfl) (fun X hl hG O hr hm => wk_X0_isIn O hr hm x0 x2 x4 ()) h
theorem hd_X0_status : yX0_status.cls ≠ "java/lang/invoke/MethodHandle" ∧ yX0_status.cls ≠ "java/lang/invoke/VarHandle" ∧ (parseMethodDescriptor yX0_status.desc).map (fun d => d.parameters.length) = some 1 := by decide +kernel
theorem hv_X0_status : yX0_status.cls = RX0 ∧ yX0_status.cls ≠ "java/lang/invoke/MethodHandle" ∧ yX0_status.cls ≠ "java/lang/invoke/VarHandle" ∧ (parseMethodDescriptor yX0_status.desc).map (fun d => d.parameters.length) = some 1 := ⟨rfl, hd_X0_status⟩
theorem hu_X0_status : yX0_status.name ≠ "<init>" ∧ (parseMethodDescriptor yX0_status.desc).map (fun d => d.parameters.length) = some 1 := ⟨by decide +kernel, hd_X0_status.2.2⟩
set_option maxHeartbeats 4000000 in
set_option maxRecDepth 100000 in
theorem wk_X0_status {X : XC} (O : XOk X cX0_status RX0 1 25) (hfl : (xL X).stackTraces = false) (hg : (xG X).2.2.2.2 = zAll (xG X).1.1 (xG X).1.2.2.2 (xG X).2.2.2.1) (hr : (xMeth X).sig.returnType = (some .int)) (hm : (xC X).maxLocals = 2) (o : Nat) (x1 : Int32) (s : XS) : Sim X xI (retC X eI xI) 0 [(0, .ref o), (1, .int x1)] [] s (x0_status o x1 s) := by
  have hzz := O.hst
  rw [hg] at hzz
  unfold x0_status
  refine s_iload_n O 1 rfl rfl dX0_status_0 ?_
  refine s_i2l O dX0_status_1 ?_
  refine s_lconst O (x := 0) (by decide) dX0_status_2 ?_
  refine s_ldc2 O (x := 3) q316 dX0_status_3 ?_
  refine s_callP O (enc2 := eI) (av := [.long x1.toInt64, .long 0, .long 3]) (rest := []) 3 (fun v0 h0 => mt_X0_isIn (xL X) (xG X) _ x1.toInt64 0 3 v0 h0) (lw_S q317 q318 q131 q319) hd_X0_isIn ⟨Nat.le_of_ble_eq_true rfl, Nat.le_of_ble_eq_true rfl⟩ rfl (Nat.le_of_ble_eq_true rfl) dX0_status_6 (fun v1 => ?_)
  refine s_if_eq O (tgt := 21) dX0_status_9 (by decide) ?_ ?_
  · refine s_iconst O (x := (-1)) (by decide) dX0_status_21 ?_
    exact s_ireturn O hr rfl dX0_status_22
  · refine s_aload_n O 0 rfl rfl dX0_status_12 ?_
    refine x_get O (ci := 0) (T := TX0) (N := 20) in_X0 rfl 2 (by decide) q233 (fun _ h => h) dX0_status_13 (fun v0 => ?_)
    refine s_vR (fun r3 => ?_)
    refine s_iload_n O 1 rfl rfl dX0_status_16 ?_
    refine s_dr (fun p4 hp5 => ?_)
    subst hp5
    refine x_iald O dX0_status_17 (fun u6 => ?_)
    refine s_goto O (tgt := 22) dX0_status_18 (by decide) ?_
    exact s_ireturn O hr rfl dX0_status_22
theorem mt_X0_status (l : Launch) (G : XG) (hfl : l.stackTraces = false) (hg : G.2.2.2.2 = zAll G.1.1 G.1.2.2.2 G.2.2.2.1) (o : Nat) (x1 : Int32) (s t : XS) (v : Int32) (h : x0_status o x1 s = some (v, t)) : xMet l yX0_status (ws_ yX0_status cX0_status 2 (some .int)) 1 25 G (xI s) [.ref o, .int x1] (eI v) (xI t) :=
  xMet_of (E := xI) (enc := eI) (by decide +kernel) (Nat.le_of_ble_eq_true rfl) (fun X hl hG O hr hm => by subst hl; subst hG; exact wk_X0_status O hfl hg hr hm o x1 s) h
theorem hd_X0_takesTape : yX0_takesTape.cls ≠ "java/lang/invoke/MethodHandle" ∧ yX0_takesTape.cls ≠ "java/lang/invoke/VarHandle" ∧ (parseMethodDescriptor yX0_takesTape.desc).map (fun d => d.parameters.length) = some 0 := by decide +kernel
theorem hv_X0_takesTape : yX0_takesTape.cls = RX0 ∧ yX0_takesTape.cls ≠ "java/lang/invoke/MethodHandle" ∧ yX0_takesTape.cls ≠ "java/lang/invoke/VarHandle" ∧ (parseMethodDescriptor yX0_takesTape.desc).map (fun d => d.parameters.length) = some 0 := ⟨rfl, hd_X0_takesTape⟩
theorem hu_X0_takesTape : yX0_takesTape.name ≠ "<init>" ∧ (parseMethodDescriptor yX0_takesTape.desc).map (fun d => d.parameters.length) = some 0 := ⟨by decide +kernel, hd_X0_takesTape.2.2⟩
set_option maxHeartbeats 4000000 in
set_option maxRecDepth 100000 in
theorem wk_X0_takesTape {X : XC} (O : XOk X cX0_takesTape RX0 0 0) (hfl : (xL X).stackTraces = false) (hg : (xG X).2.2.2.2 = zAll (xG X).1.1 (xG X).1.2.2.2 (xG X).2.2.2.1) (hr : (xMeth X).sig.returnType = (some .int)) (hm : (xC X).maxLocals = 2) (o : Nat) (s : XS) : Sim X xI (retC X eI xI) 0 [(0, .ref o)] [] s (x0_takesTape o s) := by
  have hzz := O.hst
  rw [hg] at hzz
  unfold x0_takesTape
  refine s_aload_n O 0 rfl rfl dX0_takesTape_0 ?_
  refine x_get O (ci := 0) (T := TX0) (N := 20) in_X0 rfl 1 (by decide) q232 (fun _ h => h) dX0_takesTape_1 (fun v0 => ?_)
  refine s_vI (fun u1 => ?_)
  refine s_istore_n O (L' := [(1, .int u1), (0, .ref o)]) hm (by decide) rfl rfl dX0_takesTape_4 ?_
  refine s_aload_n O 1 rfl rfl dX0_takesTape_5 ?_
  refine s_iconst O (x := 0) (by decide) dX0_takesTape_6 ?_
  refine x_put O (ci := 0) (T := TX0) (N := 20) (ty := .int) in_X0 tyX0 tyX0_ok nmX0 rfl 1 (by decide) q232 (fun _ h => h) rfl (by decide +kernel) rfl rfl dX0_takesTape_7 (fun s2 => ?_)
  refine s_iload_n O 0 rfl rfl dX0_takesTape_10 ?_
  exact s_ireturn O hr rfl dX0_takesTape_11
theorem mt_X0_takesTape (l : Launch) (G : XG) (hfl : l.stackTraces = false) (hg : G.2.2.2.2 = zAll G.1.1 G.1.2.2.2 G.2.2.2.1) (o : Nat) (s t : XS) (v : Int32) (h : x0_takesTape o s = some (v, t)) : xMet l yX0_takesTape (ws_ yX0_takesTape cX0_takesTape 2 (some .int)) 0 0 G (xI s) [.ref o] (eI v) (xI t) :=
  xMet_of (E := xI) (enc := eI) (by decide +kernel) (Nat.le_of_ble_eq_true rfl) (fun X hl hG O hr hm => by subst hl; subst hG; exact wk_X0_takesTape O hfl hg hr hm o s) h
theorem hd_X3_init : yX3_init.cls ≠ "java/lang/invoke/MethodHandle" ∧ yX3_init.cls ≠ "java/lang/invoke/VarHandle" ∧ (parseMethodDescriptor yX3_init.desc).map (fun d => d.parameters.length) = some 2 := by decide +kernel
theorem hv_X3_init : yX3_init.cls = RX3 ∧ yX3_init.cls ≠ "java/lang/invoke/MethodHandle" ∧ yX3_init.cls ≠ "java/lang/invoke/VarHandle" ∧ (parseMethodDescriptor yX3_init.desc).map (fun d => d.parameters.length) = some 2 := ⟨rfl, hd_X3_init⟩
set_option maxHeartbeats 4000000 in
set_option maxRecDepth 100000 in
theorem wk_X3_init {X : XC} (O : XOk X cX3_init RX3 4 80) (hfl : (xL X).stackTraces = false) (hg : (xG X).2.2.2.2 = zAll (xG X).1.1 (xG X).1.2.2.2 (xG X).2.2.2.1) (hr : (xMeth X).sig.returnType = none) (hm : (xC X).maxLocals = 3) (hinit : (xMeth X).name = "<init>") (o : Nat) (x1 : Nat) (x2 : Int32) (s : XS) : Sim X xI (retC X eU xI) 0 [(0, .ref o), (1, .ref x1), (2, .int x2)] [] s (x3_init o x1 x2 s) := by
  have hzz := O.hst
  rw [hg] at hzz
  unfold x3_init
  refine s_aload_n O 0 rfl rfl dX3_init_0 ?_
  refine s_aload_n O 1 rfl rfl dX3_init_1 ?_
  refine x_putF O (ci := 3) (T := TX3) (N := 8) (ty := (.object "QuotientRows")) in_X3 tyX3 tyX3_ok nmX3 rfl 7 (by decide) q344 (fun _ h => h) rfl hinit rfl (by decide +kernel) rfl rfl dX3_init_2 (fun s1 => ?_)
  refine s_aload_n O 0 rfl rfl dX3_init_5 ?_
  refine x_objInit O q334 q163 q164 ⟨Nat.le_of_ble_eq_true rfl, Nat.le_of_ble_eq_true rfl⟩ (Nat.le_of_ble_eq_true rfl) dX3_init_6 ?_
  refine s_aload_n O 0 rfl rfl dX3_init_9 ?_
  refine s_iconst O (x := (-1)) (by decide) dX3_init_10 ?_
  refine x_put O (ci := 3) (T := TX3) (N := 8) (ty := .int) in_X3 tyX3 tyX3_ok nmX3 rfl 2 (by decide) q339 (fun _ h => h) rfl (by decide +kernel) rfl rfl dX3_init_11 (fun s2 => ?_)
  refine s_aload_n O 0 rfl rfl dX3_init_14 ?_
  refine s_iconst O (x := 3) (by decide) dX3_init_15 ?_
  refine x_put O (ci := 3) (T := TX3) (N := 8) (ty := .int) in_X3 tyX3 tyX3_ok nmX3 rfl 3 (by decide) q340 (fun _ h => h) rfl (by decide +kernel) rfl rfl dX3_init_16 (fun s3 => ?_)
  refine s_aload_n O 0 rfl rfl dX3_init_19 ?_
  refine x_new O (ci := 7) (T := TJ2) (N := 3) (fs := dfJ2) in_J2 tyJ2 tyJ2_ok rfl 3 q335 q175 q135 rfl dfJ2_ok dX3_init_20 (fun p4 s5 => ?_)
  refine s_dup O rfl dX3_init_23 ?_
  refine x_callI O (enc2 := eU) (av := []) (rest := [.ref p4, .ref o]) 0 (fun v0 t0 h0 => mt_J2_init (xL X) (xG X) hfl hg p4 _ t0 v0 h0) q178 q135 q336 q177 rfl hd_J2_init ⟨Nat.le_of_ble_eq_true rfl, Nat.le_of_ble_eq_true rfl⟩ rfl (Nat.le_of_ble_eq_true rfl) dX3_init_24 (fun v6 s7 => ?_)
  refine x_putF O (ci := 3) (T := TX3) (N := 8) (ty := (.object "java/util/List")) in_X3 tyX3 tyX3_ok nmX3 rfl 4 (by decide) q341 (fun _ h => h) rfl hinit rfl (by decide +kernel) rfl rfl dX3_init_27 (fun s8 => ?_)
  refine s_aload_n O 0 rfl rfl dX3_init_30 ?_
  refine s_bipush O (x := 13) (by decide) dX3_init_31 ?_
  refine x_newI O q204 dX3_init_33 (fun p9 s10 => ?_)
  refine x_putF O (ci := 3) (T := TX3) (N := 8) (ty := (.array .int)) in_X3 tyX3 tyX3_ok nmX3 rfl 5 (by decide) q342 (fun _ h => h) rfl hinit rfl (by decide +kernel) rfl rfl dX3_init_35 (fun s11 => ?_)
  refine s_aload_n O 0 rfl rfl dX3_init_38 ?_
  refine s_iload_n O 2 rfl rfl dX3_init_39 ?_
  refine x_putF O (ci := 3) (T := TX3) (N := 8) (ty := .int) in_X3 tyX3 tyX3_ok nmX3 rfl 0 (by decide) q337 (fun _ h => h) rfl hinit rfl (by decide +kernel) rfl rfl dX3_init_40 (fun s12 => ?_)
  exact s_return O hr rfl dX3_init_43
theorem mt_X3_init (l : Launch) (G : XG) (hfl : l.stackTraces = false) (hg : G.2.2.2.2 = zAll G.1.1 G.1.2.2.2 G.2.2.2.1) (o : Nat) (x1 : Nat) (x2 : Int32) (s t : XS) (v : Unit) (h : x3_init o x1 x2 s = some (v, t)) : xMet l yX3_init (ws_ yX3_init cX3_init 3 none) 4 80 G (xI s) [.ref o, .ref x1, .int x2] (eU v) (xI t) :=
  xMet_ofN rfl (E := xI) (enc := eU) (by decide +kernel) (Nat.le_of_ble_eq_true rfl) (fun X hl hG O hr hm hinit => by subst hl; subst hG; exact wk_X3_init O hfl hg hr hm hinit o x1 x2 s) h
theorem hd_X3_next : yX3_next.cls ≠ "java/lang/invoke/MethodHandle" ∧ yX3_next.cls ≠ "java/lang/invoke/VarHandle" ∧ (parseMethodDescriptor yX3_next.desc).map (fun d => d.parameters.length) = some 0 := by decide +kernel
theorem hv_X3_next : yX3_next.cls = RX3 ∧ yX3_next.cls ≠ "java/lang/invoke/MethodHandle" ∧ yX3_next.cls ≠ "java/lang/invoke/VarHandle" ∧ (parseMethodDescriptor yX3_next.desc).map (fun d => d.parameters.length) = some 0 := ⟨rfl, hd_X3_next⟩
theorem hu_X3_next : yX3_next.name ≠ "<init>" ∧ (parseMethodDescriptor yX3_next.desc).map (fun d => d.parameters.length) = some 0 := ⟨by decide +kernel, hd_X3_next.2.2⟩
set_option maxHeartbeats 4000000 in
set_option maxRecDepth 100000 in
theorem wk_X3_next {X : XC} (O : XOk X cX3_next RX3 0 0) (hfl : (xL X).stackTraces = false) (hg : (xG X).2.2.2.2 = zAll (xG X).1.1 (xG X).1.2.2.2 (xG X).2.2.2.1) (hr : (xMeth X).sig.returnType = (some .int)) (hm : (xC X).maxLocals = 1) (o : Nat) (s : XS) : Sim X xI (retC X eI xI) 0 [(0, .ref o)] [] s (x3_next o s) := by
  have hzz := O.hst
  rw [hg] at hzz
  unfold x3_next
  refine s_while (A := Unit) (B := Unit) (La := fun _ => [(0, .ref o)]) (We := fun b0 s23 => xWX X 58 [(0, .ref o)] [] ((xI) s23)) rfl rfl ?_ ?_
  · intro Cl hn he a0 s1
    unfold x3_next_s0
    have hj45 : ∀ (s12 : XS), Sim X (xI) Cl 45 [(0, .ref o)] [] s12 (x3_next_j45 o s12) := by
      intro s12
      unfold x3_next_j45
      refine s_aload_n O 0 rfl rfl dX3_next_45 ?_
      refine s_dup O rfl dX3_next_46 ?_
      refine x_get O (ci := 3) (T := TX3) (N := 8) in_X3 rfl 1 (by decide) q338 (fun _ h => h) dX3_next_47 (fun v0 => ?_)
      refine s_vI (fun u13 => ?_)
      refine s_iconst O (x := 1) (by decide) dX3_next_50 ?_
      refine s_iadd O dX3_next_51 ?_
      refine x_put O (ci := 3) (T := TX3) (N := 8) (ty := .int) in_X3 tyX3 tyX3_ok nmX3 rfl 1 (by decide) q338 (fun _ h => h) rfl (by decide +kernel) rfl rfl dX3_next_52 (fun s14 => ?_)
      refine s_goto O (tgt := 0) dX3_next_55 (by decide) ?_
      exact Sim.ret (hn _ _)
    refine s_aload_n O 0 rfl rfl dX3_next_0 ?_
    refine x_get O (ci := 3) (T := TX3) (N := 8) in_X3 rfl 1 (by decide) q338 (fun _ h => h) dX3_next_1 (fun v0 => ?_)
    refine s_vI (fun u2 => ?_)
    refine s_aload_n O 0 rfl rfl dX3_next_4 ?_
    refine x_get O (ci := 3) (T := TX3) (N := 8) in_X3 rfl 0 (by decide) q337 (fun _ h => h) dX3_next_5 (fun v0 => ?_)
    refine s_vI (fun u3 => ?_)
    refine s_icmp_ge O (tgt := 58) dX3_next_8 (by decide) ?_ ?_
    · exact Sim.ret (he _ _)
    · refine s_aload_n O 0 rfl rfl dX3_next_11 ?_
      refine x_get O (ci := 3) (T := TX3) (N := 8) in_X3 rfl 7 (by decide) q344 (fun _ h => h) dX3_next_12 (fun v0 => ?_)
      refine s_vR (fun r4 => ?_)
      refine s_dr (fun p5 hp6 => ?_)
      subst hp6
      refine x_getN O (ci := 0) (T := TX0) (N := 20) in_X0 rfl 0 (by decide) (zf_q231 hzz) (fun _ h => h) dX3_next_15 (fun v0 => ?_)
      refine s_vR (fun r7 => ?_)
      refine s_aload_n O 0 rfl rfl dX3_next_18 ?_
      refine x_get O (ci := 3) (T := TX3) (N := 8) in_X3 rfl 1 (by decide) q338 (fun _ h => h) dX3_next_19 (fun v0 => ?_)
      refine s_vI (fun u8 => ?_)
      refine s_dr (fun p9 hp10 => ?_)
      subst hp10
      refine x_bald O dX3_next_22 (fun u11 => ?_)
      refine s_bipush O (x := 32) (by decide) dX3_next_23 ?_
      refine s_icmp_eq O (tgt := 45) dX3_next_25 (by decide) ?_ ?_
      · exact hj45 _
      · refine s_aload_n O 0 rfl rfl dX3_next_28 ?_
        refine x_get O (ci := 3) (T := TX3) (N := 8) in_X3 rfl 7 (by decide) q344 (fun _ h => h) dX3_next_29 (fun v0 => ?_)
        refine s_vR (fun r15 => ?_)
        refine s_dr (fun p16 hp17 => ?_)
        subst hp17
        refine x_getN O (ci := 0) (T := TX0) (N := 20) in_X0 rfl 0 (by decide) (zf_q231 hzz) (fun _ h => h) dX3_next_32 (fun v0 => ?_)
        refine s_vR (fun r18 => ?_)
        refine s_aload_n O 0 rfl rfl dX3_next_35 ?_
        refine x_get O (ci := 3) (T := TX3) (N := 8) in_X3 rfl 1 (by decide) q338 (fun _ h => h) dX3_next_36 (fun v0 => ?_)
        refine s_vI (fun u19 => ?_)
        refine s_dr (fun p20 hp21 => ?_)
        subst hp21
        refine x_bald O dX3_next_39 (fun u22 => ?_)
        refine s_bipush O (x := 10) (by decide) dX3_next_40 ?_
        refine s_icmp_ne O (tgt := 58) dX3_next_42 (by decide) ?_ ?_
        · exact Sim.ret (he _ _)
        · exact hj45 _
  · intro b0 s23
    show Sim X (xI) (retC X eI xI) 58 [(0, .ref o)] [] s23 _
    refine s_aload_n O 0 rfl rfl dX3_next_58 ?_
    refine x_get O (ci := 3) (T := TX3) (N := 8) in_X3 rfl 1 (by decide) q338 (fun _ h => h) dX3_next_59 (fun v0 => ?_)
    refine s_vI (fun u24 => ?_)
    exact s_ireturn O hr rfl dX3_next_62
theorem mt_X3_next (l : Launch) (G : XG) (hfl : l.stackTraces = false) (hg : G.2.2.2.2 = zAll G.1.1 G.1.2.2.2 G.2.2.2.1) (o : Nat) (s t : XS) (v : Int32) (h : x3_next o s = some (v, t)) : xMet l yX3_next (ws_ yX3_next cX3_next 1 (some .int)) 0 0 G (xI s) [.ref o] (eI v) (xI t) :=
  xMet_of (E := xI) (enc := eI) (by decide +kernel) (Nat.le_of_ble_eq_true rfl) (fun X hl hG O hr hm => by subst hl; subst hG; exact wk_X3_next O hfl hg hr hm o s) h
theorem hd_X3_isLetter : yX3_isLetter.cls ≠ "java/lang/invoke/MethodHandle" ∧ yX3_isLetter.cls ≠ "java/lang/invoke/VarHandle" ∧ (parseMethodDescriptor yX3_isLetter.desc).map (fun d => d.parameters.length) = some 1 := by decide +kernel
theorem hv_X3_isLetter : yX3_isLetter.cls = RX3 ∧ yX3_isLetter.cls ≠ "java/lang/invoke/MethodHandle" ∧ yX3_isLetter.cls ≠ "java/lang/invoke/VarHandle" ∧ (parseMethodDescriptor yX3_isLetter.desc).map (fun d => d.parameters.length) = some 1 := ⟨rfl, hd_X3_isLetter⟩
theorem hu_X3_isLetter : yX3_isLetter.name ≠ "<init>" ∧ (parseMethodDescriptor yX3_isLetter.desc).map (fun d => d.parameters.length) = some 1 := ⟨by decide +kernel, hd_X3_isLetter.2.2⟩
set_option maxHeartbeats 4000000 in
set_option maxRecDepth 100000 in
theorem wk_X3_isLetter {X : XC} (O : XOk X cX3_isLetter RX3 1 25) (hfl : (xL X).stackTraces = false) (hg : (xG X).2.2.2.2 = zAll (xG X).1.1 (xG X).1.2.2.2 (xG X).2.2.2.1) (hr : (xMeth X).sig.returnType = (some .boolean)) (hm : (xC X).maxLocals = 2) (o : Nat) (x1 : Int32) (s : XS) : Sim X xI (retC X eI xI) 0 [(0, .ref o), (1, .int x1)] [] s (x3_isLetter o x1 s) := by
  have hzz := O.hst
  rw [hg] at hzz
  unfold x3_isLetter
  refine s_iload_n O 1 rfl rfl dX3_isLetter_0 ?_
  refine s_aload_n O 0 rfl rfl dX3_isLetter_1 ?_
  refine x_get O (ci := 3) (T := TX3) (N := 8) in_X3 rfl 0 (by decide) q337 (fun _ h => h) dX3_isLetter_2 (fun v0 => ?_)
  refine s_vI (fun u1 => ?_)
  refine s_icmp_ge O (tgt := 34) dX3_isLetter_5 (by decide) ?_ ?_
  · refine s_iconst O (x := 0) (by decide) dX3_isLetter_34 ?_
    exact s_zreturnK O hr rfl rfl dX3_isLetter_35
  · refine s_aload_n O 0 rfl rfl dX3_isLetter_8 ?_
    refine x_get O (ci := 3) (T := TX3) (N := 8) in_X3 rfl 7 (by decide) q344 (fun _ h => h) dX3_isLetter_9 (fun v0 => ?_)
    refine s_vR (fun r2 => ?_)
    refine s_dr (fun p3 hp4 => ?_)
    subst hp4
    refine x_getN O (ci := 0) (T := TX0) (N := 20) in_X0 rfl 0 (by decide) (zf_q231 hzz) (fun _ h => h) dX3_isLetter_12 (fun v0 => ?_)
    refine s_vR (fun r5 => ?_)
    refine s_iload_n O 1 rfl rfl dX3_isLetter_15 ?_
    refine s_dr (fun p6 hp7 => ?_)
    subst hp7
    refine x_bald O dX3_isLetter_16 (fun u8 => ?_)
    refine s_i2l O dX3_isLetter_17 ?_
    refine s_ldc2 O (x := 97) q383 dX3_isLetter_18 ?_
    refine s_ldc2 O (x := 122) q384 dX3_isLetter_21 ?_
    refine s_callPN O (enc2 := eI) (av := [.long u8.toInt64, .long 97, .long 122]) (rest := []) 3 (fun v0 h0 => mt_X0_isIn (xL X) (xG X) _ u8.toInt64 97 122 v0 h0) q319 (zm_q385 hzz) q131 q318 hd_X0_isIn ⟨Nat.le_of_ble_eq_true rfl, Nat.le_of_ble_eq_true rfl⟩ rfl (Nat.le_of_ble_eq_true rfl) dX3_isLetter_24 (fun v9 => ?_)
    refine s_if_eq O (tgt := 34) dX3_isLetter_27 (by decide) ?_ ?_
    · refine s_iconst O (x := 0) (by decide) dX3_isLetter_34 ?_
      exact s_zreturnK O hr rfl rfl dX3_isLetter_35
    · refine s_iconst O (x := 1) (by decide) dX3_isLetter_30 ?_
      refine s_goto O (tgt := 35) dX3_isLetter_31 (by decide) ?_
      exact s_zreturnK O hr rfl rfl dX3_isLetter_35
theorem mt_X3_isLetter (l : Launch) (G : XG) (hfl : l.stackTraces = false) (hg : G.2.2.2.2 = zAll G.1.1 G.1.2.2.2 G.2.2.2.1) (o : Nat) (x1 : Int32) (s t : XS) (v : Int32) (h : x3_isLetter o x1 s = some (v, t)) : xMet l yX3_isLetter (ws_ yX3_isLetter cX3_isLetter 2 (some .boolean)) 1 25 G (xI s) [.ref o, .int x1] (eI v) (xI t) :=
  xMet_of (E := xI) (enc := eI) (by decide +kernel) (Nat.le_of_ble_eq_true rfl) (fun X hl hG O hr hm => by subst hl; subst hG; exact wk_X3_isLetter O hfl hg hr hm o x1 s) h
theorem hd_J6_newBytesLength : yJ6_newBytesLength.cls ≠ "java/lang/invoke/MethodHandle" ∧ yJ6_newBytesLength.cls ≠ "java/lang/invoke/VarHandle" ∧ (parseMethodDescriptor yJ6_newBytesLength.desc).map (fun d => d.parameters.length) = some 1 := by decide +kernel
theorem hv_J6_newBytesLength : yJ6_newBytesLength.cls = RJ6 ∧ yJ6_newBytesLength.cls ≠ "java/lang/invoke/MethodHandle" ∧ yJ6_newBytesLength.cls ≠ "java/lang/invoke/VarHandle" ∧ (parseMethodDescriptor yJ6_newBytesLength.desc).map (fun d => d.parameters.length) = some 1 := ⟨rfl, hd_J6_newBytesLength⟩
theorem hu_J6_newBytesLength : yJ6_newBytesLength.name ≠ "<init>" ∧ (parseMethodDescriptor yJ6_newBytesLength.desc).map (fun d => d.parameters.length) = some 1 := ⟨by decide +kernel, hd_J6_newBytesLength.2.2⟩
set_option maxHeartbeats 4000000 in
set_option maxRecDepth 100000 in
theorem wk_J6_newBytesLength {X : XC} (O : XOk X cJ6_newBytesLength RJ6 0 0) (hfl : (xL X).stackTraces = false) (hg : (xG X).2.2.2.2 = zAll (xG X).1.1 (xG X).1.2.2.2 (xG X).2.2.2.1) (hr : (xMeth X).sig.returnType = (some .int)) (hm : (xC X).maxLocals = 1) (x0 : Int32) (s : XS) : Sim X xI (retC X eI xI) 0 [(0, .int x0)] [] s (j6_newBytesLength x0 s) := by
  have hzz := O.hst
  rw [hg] at hzz
  unfold j6_newBytesLength
  refine s_iload_n O 0 rfl rfl dJ6_newBytesLength_0 ?_
  refine s_if_ge O (tgt := 12) dJ6_newBytesLength_1 (by decide) ?_ ?_
  · refine s_iload_n O 0 rfl rfl dJ6_newBytesLength_12 ?_
    refine s_ldc O (x := 1073741823) q404 dJ6_newBytesLength_13 ?_
    refine s_icmp_lt O (tgt := 55) dJ6_newBytesLength_15 (by decide) ?_ ?_
    · refine s_iload_n O 0 rfl rfl dJ6_newBytesLength_55 ?_
      refine s_iconst O (x := 1) (by decide) dJ6_newBytesLength_56 ?_
      refine s_ishl O dJ6_newBytesLength_57 ?_
      exact s_ireturn O hr rfl dJ6_newBytesLength_58
    · exact Sim.none
  · exact Sim.none
theorem mt_J6_newBytesLength (l : Launch) (G : XG) (hfl : l.stackTraces = false) (hg : G.2.2.2.2 = zAll G.1.1 G.1.2.2.2 G.2.2.2.1) (x0 : Int32) (s t : XS) (v : Int32) (h : j6_newBytesLength x0 s = some (v, t)) : xMet l yJ6_newBytesLength (ws_ yJ6_newBytesLength cJ6_newBytesLength 1 (some .int)) 0 0 G (xI s) [.int x0] (eI v) (xI t) :=
  xMet_of (E := xI) (enc := eI) (by decide +kernel) (Nat.le_of_ble_eq_true rfl) (fun X hl hG O hr hm => by subst hl; subst hG; exact wk_J6_newBytesLength O hfl hg hr hm x0 s) h
theorem hd_J6_newBytesFor : yJ6_newBytesFor.cls ≠ "java/lang/invoke/MethodHandle" ∧ yJ6_newBytesFor.cls ≠ "java/lang/invoke/VarHandle" ∧ (parseMethodDescriptor yJ6_newBytesFor.desc).map (fun d => d.parameters.length) = some 1 := by decide +kernel
theorem hv_J6_newBytesFor : yJ6_newBytesFor.cls = RJ6 ∧ yJ6_newBytesFor.cls ≠ "java/lang/invoke/MethodHandle" ∧ yJ6_newBytesFor.cls ≠ "java/lang/invoke/VarHandle" ∧ (parseMethodDescriptor yJ6_newBytesFor.desc).map (fun d => d.parameters.length) = some 1 := ⟨rfl, hd_J6_newBytesFor⟩
theorem hu_J6_newBytesFor : yJ6_newBytesFor.name ≠ "<init>" ∧ (parseMethodDescriptor yJ6_newBytesFor.desc).map (fun d => d.parameters.length) = some 1 := ⟨by decide +kernel, hd_J6_newBytesFor.2.2⟩
set_option maxHeartbeats 4000000 in
set_option maxRecDepth 100000 in
theorem wk_J6_newBytesFor {X : XC} (O : XOk X cJ6_newBytesFor RJ6 1 20) (hfl : (xL X).stackTraces = false) (hg : (xG X).2.2.2.2 = zAll (xG X).1.1 (xG X).1.2.2.2 (xG X).2.2.2.1) (hr : (xMeth X).sig.returnType = (some (.array .byte))) (hm : (xC X).maxLocals = 1) (x0 : Int32) (s : XS) : Sim X xI (retC X eR xI) 0 [(0, .int x0)] [] s (j6_newBytesFor x0 s) := by
  have hzz := O.hst
  rw [hg] at hzz
  unfold j6_newBytesFor
  refine s_iload_n O 0 rfl rfl dJ6_newBytesFor_0 ?_
  refine x_callS O (enc2 := eI) (av := [.int x0]) (rest := []) 1 (fun v0 t0 h0 => mt_J6_newBytesLength (xL X) (xG X) hfl hg x0 _ t0 v0 h0) (lw_S q401 q402 q141 q403) hd_J6_newBytesLength ⟨Nat.le_of_ble_eq_true rfl, Nat.le_of_ble_eq_true rfl⟩ rfl (Nat.le_of_ble_eq_true rfl) dJ6_newBytesFor_1 (fun v1 s2 => ?_)
  refine x_newB O q203 dJ6_newBytesFor_4 (fun p3 s4 => ?_)
  exact s_areturnQ O (r := (some p3)) hr (Or.inr ⟨_, rfl⟩) rfl dJ6_newBytesFor_6
theorem mt_J6_newBytesFor (l : Launch) (G : XG) (hfl : l.stackTraces = false) (hg : G.2.2.2.2 = zAll G.1.1 G.1.2.2.2 G.2.2.2.1) (x0 : Int32) (s t : XS) (v : Option Nat) (h : j6_newBytesFor x0 s = some (v, t)) : xMet l yJ6_newBytesFor (ws_ yJ6_newBytesFor cJ6_newBytesFor 1 (some (.array .byte))) 1 20 G (xI s) [.int x0] (eR v) (xI t) :=
  xMet_of (E := xI) (enc := eR) (by decide +kernel) (Nat.le_of_ble_eq_true rfl) (fun X hl hG O hr hm => by subst hl; subst hG; exact wk_J6_newBytesFor O hfl hg hr hm x0 s) h
theorem hd_J3_init : yJ3_init.cls ≠ "java/lang/invoke/MethodHandle" ∧ yJ3_init.cls ≠ "java/lang/invoke/VarHandle" ∧ (parseMethodDescriptor yJ3_init.desc).map (fun d => d.parameters.length) = some 1 := by decide +kernel
theorem hv_J3_init : yJ3_init.cls = RJ3 ∧ yJ3_init.cls ≠ "java/lang/invoke/MethodHandle" ∧ yJ3_init.cls ≠ "java/lang/invoke/VarHandle" ∧ (parseMethodDescriptor yJ3_init.desc).map (fun d => d.parameters.length) = some 1 := ⟨rfl, hd_J3_init⟩
set_option maxHeartbeats 4000000 in
set_option maxRecDepth 100000 in
theorem wk_J3_init {X : XC} (O : XOk X cJ3_init RJ3 2 40) (hfl : (xL X).stackTraces = false) (hg : (xG X).2.2.2.2 = zAll (xG X).1.1 (xG X).1.2.2.2 (xG X).2.2.2.1) (hr : (xMeth X).sig.returnType = none) (hm : (xC X).maxLocals = 2) (o : Nat) (x1 : Int32) (s : XS) : Sim X xI (retC X eU xI) 0 [(0, .ref o), (1, .int x1)] [] s (j3_init o x1 s) := by
  have hzz := O.hst
  rw [hg] at hzz
  unfold j3_init
  refine s_aload_n O 0 rfl rfl dJ3_init_0 ?_
  refine x_objInit O q395 q163 q164 ⟨Nat.le_of_ble_eq_true rfl, Nat.le_of_ble_eq_true rfl⟩ (Nat.le_of_ble_eq_true rfl) dJ3_init_1 ?_
  refine x_getstI O (x := 1) (zz_cs hzz) q396 (fun _ h => h) dJ3_init_4 ?_
  refine s_if_eq O (tgt := 25) dJ3_init_7 (by decide) ?_ ?_
  · refine s_aload_n O 0 rfl rfl dJ3_init_25 ?_
    refine s_iload_n O 1 rfl rfl dJ3_init_26 ?_
    refine x_callS O (enc2 := eR) (av := [.int x1]) (rest := [.ref o]) 1 (fun v0 t0 h0 => mt_J6_newBytesFor (xL X) (xG X) hfl hg x1 _ t0 v0 h0) (lw_S q398 q399 q141 q400) hd_J6_newBytesFor ⟨Nat.le_of_ble_eq_true rfl, Nat.le_of_ble_eq_true rfl⟩ rfl (Nat.le_of_ble_eq_true rfl) dJ3_init_27 (fun r1 s2 => ?_)
    refine x_put O (ci := 9) (T := TJ4) (N := 4) (ty := (.array .byte)) in_J4 tyJ4 tyJ4_ok nmJ4 rfl 0 (by decide) q405 (fun _ h => h) rfl (by decide +kernel) (nmA _ _) (ftA _ _) dJ3_init_30 (fun s3 => ?_)
    refine s_aload_n O 0 rfl rfl dJ3_init_33 ?_
    refine s_iconst O (x := 1) (by decide) dJ3_init_34 ?_
    refine x_put O (ci := 9) (T := TJ4) (N := 4) (ty := .byte) in_J4 tyJ4 tyJ4_ok nmJ4 rfl 1 (by decide) q406 (fun _ h => h) rfl (by decide +kernel) (by decide) (by decide) dJ3_init_35 (fun s4 => ?_)
    exact s_return O hr rfl dJ3_init_38
  · refine s_aload_n O 0 rfl rfl dJ3_init_10 ?_
    refine s_iload_n O 1 rfl rfl dJ3_init_11 ?_
    refine x_newB O q203 dJ3_init_12 (fun p5 s6 => ?_)
    refine x_put O (ci := 9) (T := TJ4) (N := 4) (ty := (.array .byte)) in_J4 tyJ4 tyJ4_ok nmJ4 rfl 0 (by decide) q405 (fun _ h => h) rfl (by decide +kernel) rfl rfl dJ3_init_14 (fun s7 => ?_)
    refine s_aload_n O 0 rfl rfl dJ3_init_17 ?_
    refine s_iconst O (x := 0) (by decide) dJ3_init_18 ?_
    refine x_put O (ci := 9) (T := TJ4) (N := 4) (ty := .byte) in_J4 tyJ4 tyJ4_ok nmJ4 rfl 1 (by decide) q406 (fun _ h => h) rfl (by decide +kernel) (by decide) (by decide) dJ3_init_19 (fun s8 => ?_)
    refine s_goto O (tgt := 38) dJ3_init_22 (by decide) ?_
    exact s_return O hr rfl dJ3_init_38
theorem mt_J3_init (l : Launch) (G : XG) (hfl : l.stackTraces = false) (hg : G.2.2.2.2 = zAll G.1.1 G.1.2.2.2 G.2.2.2.1) (o : Nat) (x1 : Int32) (s t : XS) (v : Unit) (h : j3_init o x1 s = some (v, t)) : xMet l yJ3_init (ws_ yJ3_init cJ3_init 2 none) 2 40 G (xI s) [.ref o, .int x1] (eU v) (xI t) :=
  xMet_of (E := xI) (enc := eU) (by decide +kernel) (Nat.le_of_ble_eq_true rfl) (fun X hl hG O hr hm => by subst hl; subst hG; exact wk_J3_init O hfl hg hr hm o x1 s) h
theorem hd_J4_init : yJ4_init.cls ≠ "java/lang/invoke/MethodHandle" ∧ yJ4_init.cls ≠ "java/lang/invoke/VarHandle" ∧ (parseMethodDescriptor yJ4_init.desc).map (fun d => d.parameters.length) = some 0 := by decide +kernel
theorem hv_J4_init : yJ4_init.cls = RJ4 ∧ yJ4_init.cls ≠ "java/lang/invoke/MethodHandle" ∧ yJ4_init.cls ≠ "java/lang/invoke/VarHandle" ∧ (parseMethodDescriptor yJ4_init.desc).map (fun d => d.parameters.length) = some 0 := ⟨rfl, hd_J4_init⟩
set_option maxHeartbeats 4000000 in
set_option maxRecDepth 100000 in
theorem wk_J4_init {X : XC} (O : XOk X cJ4_init RJ4 3 61) (hfl : (xL X).stackTraces = false) (hg : (xG X).2.2.2.2 = zAll (xG X).1.1 (xG X).1.2.2.2 (xG X).2.2.2.1) (hr : (xMeth X).sig.returnType = none) (hm : (xC X).maxLocals = 1) (o : Nat) (s : XS) : Sim X xI (retC X eU xI) 0 [(0, .ref o)] [] s (j4_init o s) := by
  have hzz := O.hst
  rw [hg] at hzz
  unfold j4_init
  refine s_aload_n O 0 rfl rfl dJ4_init_0 ?_
  refine s_bipush O (x := 16) (by decide) dJ4_init_1 ?_
  refine x_callI O (enc2 := eU) (av := [.int 16]) (rest := []) 1 (fun v0 t0 h0 => mt_J3_init (xL X) (xG X) hfl hg o 16 _ t0 v0 h0) q394 q138 q392 q393 rfl hd_J3_init ⟨Nat.le_of_ble_eq_true rfl, Nat.le_of_ble_eq_true rfl⟩ rfl (Nat.le_of_ble_eq_true rfl) dJ4_init_3 (fun v1 s2 => ?_)
  exact s_return O hr rfl dJ4_init_6
theorem mt_J4_init (l : Launch) (G : XG) (hfl : l.stackTraces = false) (hg : G.2.2.2.2 = zAll G.1.1 G.1.2.2.2 G.2.2.2.1) (o : Nat) (s t : XS) (v : Unit) (h : j4_init o s = some (v, t)) : xMet l yJ4_init (ws_ yJ4_init cJ4_init 1 none) 3 61 G (xI s) [.ref o] (eU v) (xI t) :=
  xMet_of (E := xI) (enc := eU) (by decide +kernel) (Nat.le_of_ble_eq_true rfl) (fun X hl hG O hr hm => by subst hl; subst hG; exact wk_J4_init O hfl hg hr hm o s) h
theorem hd_J8_max : yJ8_max.cls ≠ "java/lang/invoke/MethodHandle" ∧ yJ8_max.cls ≠ "java/lang/invoke/VarHandle" ∧ (parseMethodDescriptor yJ8_max.desc).map (fun d => d.parameters.length) = some 2 := by decide +kernel
set_option maxHeartbeats 4000000 in
set_option maxRecDepth 100000 in
theorem wk_J8_max {X : XC} {w0 : XS} (O : XOk X cJ8_max RJ8 0 0) (hr : (xMeth X).sig.returnType = some .int) (hm : (xC X).maxLocals = 2) (x0 : Int32) (x1 : Int32) (s : Unit) : Sim X (fun _ : Unit => w0) (retC X eI (fun _ : Unit => w0)) 0 [(0, .int x0), (1, .int x1)] [] s (j8_max x0 x1 s) := by
  unfold j8_max
  refine s_iload_n O 0 rfl rfl dJ8_max_0 ?_
  refine s_iload_n O 1 rfl rfl dJ8_max_1 ?_
  refine s_icmp_lt O (tgt := 9) dJ8_max_2 (by decide) ?_ ?_
  · refine s_iload_n O 1 rfl rfl dJ8_max_9 ?_
    exact s_ireturn O hr rfl dJ8_max_10
  · refine s_iload_n O 0 rfl rfl dJ8_max_5 ?_
    refine s_goto O (tgt := 10) dJ8_max_6 (by decide) ?_
    exact s_ireturn O hr rfl dJ8_max_10
theorem mt_J8_max (l : Launch) (G : XG) (w0 : XS) (x0 : Int32) (x1 : Int32) (v : Int32) (h : j8_max x0 x1 () = some (v, ())) : xMet l yJ8_max (ws_ yJ8_max cJ8_max 2 (some .int)) 0 0 G w0 [.int x0, .int x1] (eI v) w0 :=
  xMet_of (E := fun _ : Unit => w0) (enc := eI) (t := ()) (by decide +kernel) (Nat.le_of_ble_eq_true rfl) (fun X hl hG O hr hm => wk_J8_max O hr hm x0 x1 ()) h
theorem hd_J7_hugeLength : yJ7_hugeLength.cls ≠ "java/lang/invoke/MethodHandle" ∧ yJ7_hugeLength.cls ≠ "java/lang/invoke/VarHandle" ∧ (parseMethodDescriptor yJ7_hugeLength.desc).map (fun d => d.parameters.length) = some 2 := by decide +kernel
theorem hv_J7_hugeLength : yJ7_hugeLength.cls = RJ7 ∧ yJ7_hugeLength.cls ≠ "java/lang/invoke/MethodHandle" ∧ yJ7_hugeLength.cls ≠ "java/lang/invoke/VarHandle" ∧ (parseMethodDescriptor yJ7_hugeLength.desc).map (fun d => d.parameters.length) = some 2 := ⟨rfl, hd_J7_hugeLength⟩
theorem hu_J7_hugeLength : yJ7_hugeLength.name ≠ "<init>" ∧ (parseMethodDescriptor yJ7_hugeLength.desc).map (fun d => d.parameters.length) = some 2 := ⟨by decide +kernel, hd_J7_hugeLength.2.2⟩
set_option maxHeartbeats 4000000 in
set_option maxRecDepth 100000 in
theorem wk_J7_hugeLength {X : XC} (O : XOk X cJ7_hugeLength RJ7 0 0) (hfl : (xL X).stackTraces = false) (hg : (xG X).2.2.2.2 = zAll (xG X).1.1 (xG X).1.2.2.2 (xG X).2.2.2.1) (hr : (xMeth X).sig.returnType = (some .int)) (hm : (xC X).maxLocals = 3) (x0 : Int32) (x1 : Int32) (s : XS) : Sim X xI (retC X eI xI) 0 [(0, .int x0), (1, .int x1)] [] s (j7_hugeLength x0 x1 s) := by
  have hzz := O.hst
  rw [hg] at hzz
  unfold j7_hugeLength
  refine s_iload_n O 0 rfl rfl dJ7_hugeLength_0 ?_
  refine s_iload_n O 1 rfl rfl dJ7_hugeLength_1 ?_
  refine s_iadd O dJ7_hugeLength_2 ?_
  refine s_nmi fun u1 => ?_
  refine s_istore_n O (L' := [(2, .int u1), (0, .int x0), (1, .int x1)]) hm (by decide) rfl rfl dJ7_hugeLength_3 ?_
  refine s_iload_n O 0 rfl rfl dJ7_hugeLength_4 ?_
  refine s_if_ge O (tgt := 49) dJ7_hugeLength_5 (by decide) ?_ ?_
  · refine s_iload_n O 0 rfl rfl dJ7_hugeLength_49 ?_
    refine s_ldc O (x := 2147483639) q439 dJ7_hugeLength_50 ?_
    refine s_icmp_gt O (tgt := 58) dJ7_hugeLength_52 (by decide) ?_ ?_
    · refine s_iload_n O 0 rfl rfl dJ7_hugeLength_58 ?_
      exact s_ireturn O hr rfl dJ7_hugeLength_59
    · refine s_ldc O (x := 2147483639) q439 dJ7_hugeLength_55 ?_
      exact s_ireturn O hr rfl dJ7_hugeLength_57
  · exact Sim.none
theorem mt_J7_hugeLength (l : Launch) (G : XG) (hfl : l.stackTraces = false) (hg : G.2.2.2.2 = zAll G.1.1 G.1.2.2.2 G.2.2.2.1) (x0 : Int32) (x1 : Int32) (s t : XS) (v : Int32) (h : j7_hugeLength x0 x1 s = some (v, t)) : xMet l yJ7_hugeLength (ws_ yJ7_hugeLength cJ7_hugeLength 3 (some .int)) 0 0 G (xI s) [.int x0, .int x1] (eI v) (xI t) :=
  xMet_of (E := xI) (enc := eI) (by decide +kernel) (Nat.le_of_ble_eq_true rfl) (fun X hl hG O hr hm => by subst hl; subst hG; exact wk_J7_hugeLength O hfl hg hr hm x0 x1 s) h
theorem hd_J7_newLength : yJ7_newLength.cls ≠ "java/lang/invoke/MethodHandle" ∧ yJ7_newLength.cls ≠ "java/lang/invoke/VarHandle" ∧ (parseMethodDescriptor yJ7_newLength.desc).map (fun d => d.parameters.length) = some 3 := by decide +kernel
theorem hv_J7_newLength : yJ7_newLength.cls = RJ7 ∧ yJ7_newLength.cls ≠ "java/lang/invoke/MethodHandle" ∧ yJ7_newLength.cls ≠ "java/lang/invoke/VarHandle" ∧ (parseMethodDescriptor yJ7_newLength.desc).map (fun d => d.parameters.length) = some 3 := ⟨rfl, hd_J7_newLength⟩
theorem hu_J7_newLength : yJ7_newLength.name ≠ "<init>" ∧ (parseMethodDescriptor yJ7_newLength.desc).map (fun d => d.parameters.length) = some 3 := ⟨by decide +kernel, hd_J7_newLength.2.2⟩
set_option maxHeartbeats 4000000 in
set_option maxRecDepth 100000 in
theorem wk_J7_newLength {X : XC} (O : XOk X cJ7_newLength RJ7 1 22) (hfl : (xL X).stackTraces = false) (hg : (xG X).2.2.2.2 = zAll (xG X).1.1 (xG X).1.2.2.2 (xG X).2.2.2.1) (hr : (xMeth X).sig.returnType = (some .int)) (hm : (xC X).maxLocals = 4) (x0 : Int32) (x1 : Int32) (x2 : Int32) (s : XS) : Sim X xI (retC X eI xI) 0 [(0, .int x0), (1, .int x1), (2, .int x2)] [] s (j7_newLength x0 x1 x2 s) := by
  have hzz := O.hst
  rw [hg] at hzz
  unfold j7_newLength
  refine s_iload_n O 0 rfl rfl dJ7_newLength_0 ?_
  refine s_iload_n O 1 rfl rfl dJ7_newLength_1 ?_
  refine s_iload_n O 2 rfl rfl dJ7_newLength_2 ?_
  refine s_callP O (enc2 := eI) (av := [.int x1, .int x2]) (rest := [.int x0]) 2 (fun v0 h0 => mt_J8_max (xL X) (xG X) _ x1 x2 v0 h0) (lw_S q436 q437 q143 q438) hd_J8_max ⟨Nat.le_of_ble_eq_true rfl, Nat.le_of_ble_eq_true rfl⟩ rfl (Nat.le_of_ble_eq_true rfl) dJ7_newLength_3 (fun v1 => ?_)
  refine s_iadd O dJ7_newLength_6 ?_
  refine s_nmi fun u3 => ?_
  refine s_istore_n O (L' := [(3, .int u3), (0, .int x0), (1, .int x1), (2, .int x2)]) hm (by decide) rfl rfl dJ7_newLength_7 ?_
  refine s_iconst O (x := 0) (by decide) dJ7_newLength_8 ?_
  refine s_iload_n O 0 rfl rfl dJ7_newLength_9 ?_
  refine s_icmp_ge O (tgt := 21) dJ7_newLength_10 (by decide) ?_ ?_
  · refine s_iload_n O 1 rfl rfl dJ7_newLength_21 ?_
    refine s_iload_n O 2 rfl rfl dJ7_newLength_22 ?_
    refine x_callS O (enc2 := eI) (av := [.int x0, .int x1]) (rest := []) 2 (fun v0 t0 h0 => mt_J7_hugeLength (xL X) (xG X) hfl hg x0 x1 _ t0 v0 h0) (lw_S q440 q441 q142 q442) hd_J7_hugeLength ⟨Nat.le_of_ble_eq_true rfl, Nat.le_of_ble_eq_true rfl⟩ rfl (Nat.le_of_ble_eq_true rfl) dJ7_newLength_23 (fun v4 s5 => ?_)
    exact s_ireturn O hr rfl dJ7_newLength_26
  · refine s_iload_n O 0 rfl rfl dJ7_newLength_13 ?_
    refine s_ldc O (x := 2147483639) q439 dJ7_newLength_14 ?_
    refine s_icmp_gt O (tgt := 21) dJ7_newLength_16 (by decide) ?_ ?_
    · refine s_iload_n O 1 rfl rfl dJ7_newLength_21 ?_
      refine s_iload_n O 2 rfl rfl dJ7_newLength_22 ?_
      refine x_callS O (enc2 := eI) (av := [.int x0, .int x1]) (rest := []) 2 (fun v0 t0 h0 => mt_J7_hugeLength (xL X) (xG X) hfl hg x0 x1 _ t0 v0 h0) (lw_S q440 q441 q142 q442) hd_J7_hugeLength ⟨Nat.le_of_ble_eq_true rfl, Nat.le_of_ble_eq_true rfl⟩ rfl (Nat.le_of_ble_eq_true rfl) dJ7_newLength_23 (fun v6 s7 => ?_)
      exact s_ireturn O hr rfl dJ7_newLength_26
    · refine s_iload_n O 0 rfl rfl dJ7_newLength_19 ?_
      exact s_ireturn O hr rfl dJ7_newLength_20
theorem mt_J7_newLength (l : Launch) (G : XG) (hfl : l.stackTraces = false) (hg : G.2.2.2.2 = zAll G.1.1 G.1.2.2.2 G.2.2.2.1) (x0 : Int32) (x1 : Int32) (x2 : Int32) (s t : XS) (v : Int32) (h : j7_newLength x0 x1 x2 s = some (v, t)) : xMet l yJ7_newLength (ws_ yJ7_newLength cJ7_newLength 4 (some .int)) 1 22 G (xI s) [.int x0, .int x1, .int x2] (eI v) (xI t) :=
  xMet_of (E := xI) (enc := eI) (by decide +kernel) (Nat.le_of_ble_eq_true rfl) (fun X hl hG O hr hm => by subst hl; subst hG; exact wk_J7_newLength O hfl hg hr hm x0 x1 x2 s) h
theorem hd_J3_newCapacity : yJ3_newCapacity.cls ≠ "java/lang/invoke/MethodHandle" ∧ yJ3_newCapacity.cls ≠ "java/lang/invoke/VarHandle" ∧ (parseMethodDescriptor yJ3_newCapacity.desc).map (fun d => d.parameters.length) = some 1 := by decide +kernel
theorem hv_J3_newCapacity : yJ3_newCapacity.cls = RJ3 ∧ yJ3_newCapacity.cls ≠ "java/lang/invoke/MethodHandle" ∧ yJ3_newCapacity.cls ≠ "java/lang/invoke/VarHandle" ∧ (parseMethodDescriptor yJ3_newCapacity.desc).map (fun d => d.parameters.length) = some 1 := ⟨rfl, hd_J3_newCapacity⟩
theorem hu_J3_newCapacity : yJ3_newCapacity.name ≠ "<init>" ∧ (parseMethodDescriptor yJ3_newCapacity.desc).map (fun d => d.parameters.length) = some 1 := ⟨by decide +kernel, hd_J3_newCapacity.2.2⟩
set_option maxHeartbeats 4000000 in
set_option maxRecDepth 100000 in
theorem wk_J3_newCapacity {X : XC} (O : XOk X cJ3_newCapacity RJ3 2 45) (hfl : (xL X).stackTraces = false) (hg : (xG X).2.2.2.2 = zAll (xG X).1.1 (xG X).1.2.2.2 (xG X).2.2.2.1) (hr : (xMeth X).sig.returnType = (some .int)) (hm : (xC X).maxLocals = 6) (o : Nat) (x1 : Int32) (s : XS) : Sim X xI (retC X eI xI) 0 [(0, .ref o), (1, .int x1)] [] s (j3_newCapacity o x1 s) := by
  have hzz := O.hst
  rw [hg] at hzz
  unfold j3_newCapacity
  refine s_aload_n O 0 rfl rfl dJ3_newCapacity_0 ?_
  refine x_get O (ci := 9) (T := TJ4) (N := 4) in_J4 rfl 0 (by decide) q405 (fun _ h => h) dJ3_newCapacity_1 (fun v0 => ?_)
  refine s_vR (fun r1 => ?_)
  refine s_dr (fun p2 hp3 => ?_)
  subst hp3
  refine x_alen O dJ3_newCapacity_4 (fun u4 => ?_)
  refine s_istore_n O (L' := [(2, .int u4), (0, .ref o), (1, .int x1)]) hm (by decide) rfl rfl dJ3_newCapacity_5 ?_
  refine s_iload_n O 2 rfl rfl dJ3_newCapacity_6 ?_
  refine s_aload_n O 1 rfl rfl dJ3_newCapacity_7 ?_
  refine x_get O (ci := 9) (T := TJ4) (N := 4) in_J4 rfl 1 (by decide) q406 (fun _ h => h) dJ3_newCapacity_8 (fun v0 => ?_)
  refine s_vI (fun u5 => ?_)
  refine s_ishl O dJ3_newCapacity_11 ?_
  refine s_nmi fun u6 => ?_
  refine s_istore_n O (L' := [(3, .int u6), (2, .int u4), (0, .ref o), (1, .int x1)]) hm (by decide) rfl rfl dJ3_newCapacity_12 ?_
  refine s_iload_n O 0 rfl rfl dJ3_newCapacity_13 ?_
  refine s_iload_n O 1 rfl rfl dJ3_newCapacity_14 ?_
  refine s_isub O dJ3_newCapacity_15 ?_
  refine s_nmi fun u7 => ?_
  refine s_istore O (L' := [(4, .int u7), (3, .int u6), (2, .int u4), (0, .ref o), (1, .int x1)]) hm (by decide) rfl dJ3_newCapacity_16 ?_
  refine s_iload_n O 2 rfl rfl dJ3_newCapacity_18 ?_
  refine s_iload O 0 rfl dJ3_newCapacity_19 ?_
  refine s_iload_n O 2 rfl rfl dJ3_newCapacity_21 ?_
  refine s_iconst O (x := 2) (by decide) dJ3_newCapacity_22 ?_
  refine s_aload_n O 3 rfl rfl dJ3_newCapacity_23 ?_
  refine x_get O (ci := 9) (T := TJ4) (N := 4) in_J4 rfl 1 (by decide) q406 (fun _ h => h) dJ3_newCapacity_24 (fun v0 => ?_)
  refine s_vI (fun u8 => ?_)
  refine s_ishl O dJ3_newCapacity_27 ?_
  refine s_iadd O dJ3_newCapacity_28 ?_
  refine x_callS O (enc2 := eI) (av := [.int u4, .int u7, .int (u4 + ((2 : Int32) <<< (u8 &&& 31)))]) (rest := []) 3 (fun v0 t0 h0 => mt_J7_newLength (xL X) (xG X) hfl hg u4 u7 (u4 + ((2 : Int32) <<< (u8 &&& 31))) _ t0 v0 h0) (lw_S q433 q434 q142 q435) hd_J7_newLength ⟨Nat.le_of_ble_eq_true rfl, Nat.le_of_ble_eq_true rfl⟩ rfl (Nat.le_of_ble_eq_true rfl) dJ3_newCapacity_29 (fun v9 s10 => ?_)
  refine s_istore O (L' := [(5, .int v9), (4, .int u7), (3, .int u6), (2, .int u4), (0, .ref o), (1, .int x1)]) hm (by decide) rfl dJ3_newCapacity_32 ?_
  refine s_iload O 0 rfl dJ3_newCapacity_34 ?_
  refine s_ldc O (x := 2147483647) q443 dJ3_newCapacity_36 ?_
  refine s_icmp_ne O (tgt := 51) dJ3_newCapacity_38 (by decide) ?_ ?_
  · refine s_iload O 0 rfl dJ3_newCapacity_51 ?_
    refine s_aload_n O 4 rfl rfl dJ3_newCapacity_53 ?_
    refine x_get O (ci := 9) (T := TJ4) (N := 4) in_J4 rfl 1 (by decide) q406 (fun _ h => h) dJ3_newCapacity_54 (fun v0 => ?_)
    refine s_vI (fun u11 => ?_)
    refine s_ishr O dJ3_newCapacity_57 ?_
    exact s_ireturn O hr rfl dJ3_newCapacity_58
  · exact Sim.none
theorem mt_J3_newCapacity (l : Launch) (G : XG) (hfl : l.stackTraces = false) (hg : G.2.2.2.2 = zAll G.1.1 G.1.2.2.2 G.2.2.2.1) (o : Nat) (x1 : Int32) (s t : XS) (v : Int32) (h : j3_newCapacity o x1 s = some (v, t)) : xMet l yJ3_newCapacity (ws_ yJ3_newCapacity cJ3_newCapacity 6 (some .int)) 2 45 G (xI s) [.ref o, .int x1] (eI v) (xI t) :=
  xMet_of (E := xI) (enc := eI) (by decide +kernel) (Nat.le_of_ble_eq_true rfl) (fun X hl hG O hr hm => by subst hl; subst hG; exact wk_J3_newCapacity O hfl hg hr hm o x1 s) h
theorem hd_J8_min : yJ8_min.cls ≠ "java/lang/invoke/MethodHandle" ∧ yJ8_min.cls ≠ "java/lang/invoke/VarHandle" ∧ (parseMethodDescriptor yJ8_min.desc).map (fun d => d.parameters.length) = some 2 := by decide +kernel
set_option maxHeartbeats 4000000 in
set_option maxRecDepth 100000 in
theorem wk_J8_min {X : XC} {w0 : XS} (O : XOk X cJ8_min RJ8 0 0) (hr : (xMeth X).sig.returnType = some .int) (hm : (xC X).maxLocals = 2) (x0 : Int32) (x1 : Int32) (s : Unit) : Sim X (fun _ : Unit => w0) (retC X eI (fun _ : Unit => w0)) 0 [(0, .int x0), (1, .int x1)] [] s (j8_min x0 x1 s) := by
  unfold j8_min
  refine s_iload_n O 0 rfl rfl dJ8_min_0 ?_
  refine s_iload_n O 1 rfl rfl dJ8_min_1 ?_
  refine s_icmp_gt O (tgt := 9) dJ8_min_2 (by decide) ?_ ?_
  · refine s_iload_n O 1 rfl rfl dJ8_min_9 ?_
    exact s_ireturn O hr rfl dJ8_min_10
  · refine s_iload_n O 0 rfl rfl dJ8_min_5 ?_
    refine s_goto O (tgt := 10) dJ8_min_6 (by decide) ?_
    exact s_ireturn O hr rfl dJ8_min_10
theorem mt_J8_min (l : Launch) (G : XG) (w0 : XS) (x0 : Int32) (x1 : Int32) (v : Int32) (h : j8_min x0 x1 () = some (v, ())) : xMet l yJ8_min (ws_ yJ8_min cJ8_min 2 (some .int)) 0 0 G w0 [.int x0, .int x1] (eI v) w0 :=
  xMet_of (E := fun _ : Unit => w0) (enc := eI) (t := ()) (by decide +kernel) (Nat.le_of_ble_eq_true rfl) (fun X hl hG O hr hm => wk_J8_min O hr hm x0 x1 ()) h
theorem hd_J9_copyOf : yJ9_copyOf.cls ≠ "java/lang/invoke/MethodHandle" ∧ yJ9_copyOf.cls ≠ "java/lang/invoke/VarHandle" ∧ (parseMethodDescriptor yJ9_copyOf.desc).map (fun d => d.parameters.length) = some 2 := by decide +kernel
theorem hv_J9_copyOf : yJ9_copyOf.cls = RJ9 ∧ yJ9_copyOf.cls ≠ "java/lang/invoke/MethodHandle" ∧ yJ9_copyOf.cls ≠ "java/lang/invoke/VarHandle" ∧ (parseMethodDescriptor yJ9_copyOf.desc).map (fun d => d.parameters.length) = some 2 := ⟨rfl, hd_J9_copyOf⟩
theorem hu_J9_copyOf : yJ9_copyOf.name ≠ "<init>" ∧ (parseMethodDescriptor yJ9_copyOf.desc).map (fun d => d.parameters.length) = some 2 := ⟨by decide +kernel, hd_J9_copyOf.2.2⟩
set_option maxHeartbeats 4000000 in
set_option maxRecDepth 100000 in
theorem wk_J9_copyOf {X : XC} (O : XOk X cJ9_copyOf RJ9 1 60) (hfl : (xL X).stackTraces = false) (hg : (xG X).2.2.2.2 = zAll (xG X).1.1 (xG X).1.2.2.2 (xG X).2.2.2.1) (hr : (xMeth X).sig.returnType = (some (.array .byte))) (hm : (xC X).maxLocals = 3) (x0 : Nat) (x1 : Int32) (s : XS) : Sim X xI (retC X eR xI) 0 [(0, .ref x0), (1, .int x1)] [] s (j9_copyOf x0 x1 s) := by
  have hzz := O.hst
  rw [hg] at hzz
  unfold j9_copyOf
  refine s_iload_n O 1 rfl rfl dJ9_copyOf_0 ?_
  refine s_aload_n O 0 rfl rfl dJ9_copyOf_1 ?_
  refine x_alen O dJ9_copyOf_2 (fun u1 => ?_)
  refine s_icmp_ne O (tgt := 14) dJ9_copyOf_3 (by decide) ?_ ?_
  · refine s_iload_n O 1 rfl rfl dJ9_copyOf_14 ?_
    refine x_newB O q203 dJ9_copyOf_15 (fun p2 s3 => ?_)
    refine s_astore_n O (L' := [(2, .ref p2), (0, .ref x0), (1, .int x1)]) hm (by decide) rfl rfl dJ9_copyOf_17 ?_
    refine s_aload_n O 1 rfl rfl dJ9_copyOf_18 ?_
    refine s_iconst O (x := 0) (by decide) dJ9_copyOf_19 ?_
    refine s_aload_n O 0 rfl rfl dJ9_copyOf_20 ?_
    refine s_iconst O (x := 0) (by decide) dJ9_copyOf_21 ?_
    refine s_aload_n O 1 rfl rfl dJ9_copyOf_22 ?_
    refine x_alen O dJ9_copyOf_23 (fun u4 => ?_)
    refine s_iload_n O 2 rfl rfl dJ9_copyOf_24 ?_
    refine s_callP O (enc2 := eI) (av := [.int u4, .int x1]) (rest := [.int 0, .ref p2, .int 0, .ref x0]) 2 (fun v0 h0 => mt_J8_min (xL X) (xG X) _ u4 x1 v0 h0) (lw_S q454 q455 q143 q456) hd_J8_min ⟨Nat.le_of_ble_eq_true rfl, Nat.le_of_ble_eq_true rfl⟩ rfl (Nat.le_of_ble_eq_true rfl) dJ9_copyOf_25 (fun v5 => ?_)
    refine x_acI O (t := 2) (by decide) q457 q459 q458 q145 ⟨Nat.le_of_ble_eq_true rfl, by decide⟩ (Nat.le_of_ble_eq_true rfl) dJ9_copyOf_28 (fun s7 => ?_)
    refine s_aload_n O 0 rfl rfl dJ9_copyOf_31 ?_
    exact s_areturnQ O (r := (some p2)) hr (Or.inr ⟨_, rfl⟩) rfl dJ9_copyOf_32
  · refine s_aload_n O 0 rfl rfl dJ9_copyOf_6 ?_
    refine x_cloneB O hzz q447 ⟨Nat.le_of_ble_eq_true rfl, Nat.le_of_ble_eq_true rfl⟩ (Nat.le_of_ble_eq_true rfl) dJ9_copyOf_7 (fun p8 s9 => ?_)
    refine x_castB O q453 dJ9_copyOf_10 ?_
    exact s_areturnQ O (r := (some p8)) hr (Or.inr ⟨_, rfl⟩) rfl dJ9_copyOf_13
theorem mt_J9_copyOf (l : Launch) (G : XG) (hfl : l.stackTraces = false) (hg : G.2.2.2.2 = zAll G.1.1 G.1.2.2.2 G.2.2.2.1) (x0 : Nat) (x1 : Int32) (s t : XS) (v : Option Nat) (h : j9_copyOf x0 x1 s = some (v, t)) : xMet l yJ9_copyOf (ws_ yJ9_copyOf cJ9_copyOf 3 (some (.array .byte))) 1 60 G (xI s) [.ref x0, .int x1] (eR v) (xI t) :=
  xMet_of (E := xI) (enc := eR) (by decide +kernel) (Nat.le_of_ble_eq_true rfl) (fun X hl hG O hr hm => by subst hl; subst hG; exact wk_J9_copyOf O hfl hg hr hm x0 x1 s) h
theorem hd_J3_ensureCapacityInternal : yJ3_ensureCapacityInternal.cls ≠ "java/lang/invoke/MethodHandle" ∧ yJ3_ensureCapacityInternal.cls ≠ "java/lang/invoke/VarHandle" ∧ (parseMethodDescriptor yJ3_ensureCapacityInternal.desc).map (fun d => d.parameters.length) = some 1 := by decide +kernel
theorem hv_J3_ensureCapacityInternal : yJ3_ensureCapacityInternal.cls = RJ3 ∧ yJ3_ensureCapacityInternal.cls ≠ "java/lang/invoke/MethodHandle" ∧ yJ3_ensureCapacityInternal.cls ≠ "java/lang/invoke/VarHandle" ∧ (parseMethodDescriptor yJ3_ensureCapacityInternal.desc).map (fun d => d.parameters.length) = some 1 := ⟨rfl, hd_J3_ensureCapacityInternal⟩
theorem hu_J3_ensureCapacityInternal : yJ3_ensureCapacityInternal.name ≠ "<init>" ∧ (parseMethodDescriptor yJ3_ensureCapacityInternal.desc).map (fun d => d.parameters.length) = some 1 := ⟨by decide +kernel, hd_J3_ensureCapacityInternal.2.2⟩
set_option maxHeartbeats 4000000 in
set_option maxRecDepth 100000 in
theorem wk_J3_ensureCapacityInternal {X : XC} (O : XOk X cJ3_ensureCapacityInternal RJ3 3 82) (hfl : (xL X).stackTraces = false) (hg : (xG X).2.2.2.2 = zAll (xG X).1.1 (xG X).1.2.2.2 (xG X).2.2.2.1) (hr : (xMeth X).sig.returnType = none) (hm : (xC X).maxLocals = 3) (o : Nat) (x1 : Int32) (s : XS) : Sim X xI (retC X eU xI) 0 [(0, .ref o), (1, .int x1)] [] s (j3_ensureCapacityInternal o x1 s) := by
  have hzz := O.hst
  rw [hg] at hzz
  unfold j3_ensureCapacityInternal
  refine s_aload_n O 0 rfl rfl dJ3_ensureCapacityInternal_0 ?_
  refine x_get O (ci := 9) (T := TJ4) (N := 4) in_J4 rfl 0 (by decide) q405 (fun _ h => h) dJ3_ensureCapacityInternal_1 (fun v0 => ?_)
  refine s_vR (fun r1 => ?_)
  refine s_dr (fun p2 hp3 => ?_)
  subst hp3
  refine x_alen O dJ3_ensureCapacityInternal_4 (fun u4 => ?_)
  refine s_aload_n O 0 rfl rfl dJ3_ensureCapacityInternal_5 ?_
  refine x_get O (ci := 9) (T := TJ4) (N := 4) in_J4 rfl 1 (by decide) q406 (fun _ h => h) dJ3_ensureCapacityInternal_6 (fun v0 => ?_)
  refine s_vI (fun u5 => ?_)
  refine s_ishr O dJ3_ensureCapacityInternal_9 ?_
  refine s_nmi fun u6 => ?_
  refine s_istore_n O (L' := [(2, .int u6), (0, .ref o), (1, .int x1)]) hm (by decide) rfl rfl dJ3_ensureCapacityInternal_10 ?_
  refine s_iload_n O 2 rfl rfl dJ3_ensureCapacityInternal_11 ?_
  refine s_iload_n O 0 rfl rfl dJ3_ensureCapacityInternal_12 ?_
  refine s_isub O dJ3_ensureCapacityInternal_13 ?_
  refine s_if_le O (tgt := 38) dJ3_ensureCapacityInternal_14 (by decide) ?_ ?_
  · exact s_return O hr rfl dJ3_ensureCapacityInternal_38
  · refine s_aload_n O 1 rfl rfl dJ3_ensureCapacityInternal_17 ?_
    refine s_aload_n O 1 rfl rfl dJ3_ensureCapacityInternal_18 ?_
    refine x_get O (ci := 9) (T := TJ4) (N := 4) in_J4 rfl 0 (by decide) q405 (fun _ h => h) dJ3_ensureCapacityInternal_19 (fun v0 => ?_)
    refine s_vR (fun r7 => ?_)
    refine s_aload_n O 1 rfl rfl dJ3_ensureCapacityInternal_22 ?_
    refine s_iload_n O 2 rfl rfl dJ3_ensureCapacityInternal_23 ?_
    refine x_callU O (enc2 := eI) (ci := 9) (av := [.int x1]) (rest := [va_rf r7, .ref o]) 1 (fun v0 t0 h0 => mt_J3_newCapacity (xL X) (xG X) hfl hg o x1 _ t0 v0 h0) q432 q432 q431 q429 q2101 (u_selP O.hK.1 (ci := 9) rfl (zp_1 hzz) (O.hts _ q2101) (O.hts _ q431)) q431 q138 hv_J3_newCapacity ⟨Nat.le_of_ble_eq_true rfl, Nat.le_of_ble_eq_true rfl⟩ rfl rfl (by generalize r7 = zq0; cases zq0 <;> exact Nat.le_of_ble_eq_true rfl) dJ3_ensureCapacityInternal_24 (fun v8 s9 => ?_)
    refine s_aload_n O 1 rfl rfl dJ3_ensureCapacityInternal_27 ?_
    refine x_get O (ci := 9) (T := TJ4) (N := 4) in_J4 rfl 1 (by decide) q406 (fun _ h => h) dJ3_ensureCapacityInternal_28 (fun v0 => ?_)
    refine s_vI (fun u10 => ?_)
    refine s_ishl O dJ3_ensureCapacityInternal_31 ?_
    refine s_dr (fun p11 hp12 => ?_)
    subst hp12
    refine x_callS O (enc2 := eR) (av := [.ref p11, .int (v8 <<< (u10 &&& 31))]) (rest := [.ref o]) 2 (fun v0 t0 h0 => mt_J9_copyOf (xL X) (xG X) hfl hg p11 (v8 <<< (u10 &&& 31)) _ t0 v0 h0) (lw_S q444 q445 q144 q446) hd_J9_copyOf ⟨Nat.le_of_ble_eq_true rfl, Nat.le_of_ble_eq_true rfl⟩ rfl (Nat.le_of_ble_eq_true rfl) dJ3_ensureCapacityInternal_32 (fun r13 s14 => ?_)
    refine x_put O (ci := 9) (T := TJ4) (N := 4) (ty := (.array .byte)) in_J4 tyJ4 tyJ4_ok nmJ4 rfl 0 (by decide) q405 (fun _ h => h) rfl (by decide +kernel) (nmA _ _) (ftA _ _) dJ3_ensureCapacityInternal_35 (fun s15 => ?_)
    exact s_return O hr rfl dJ3_ensureCapacityInternal_38
theorem mt_J3_ensureCapacityInternal (l : Launch) (G : XG) (hfl : l.stackTraces = false) (hg : G.2.2.2.2 = zAll G.1.1 G.1.2.2.2 G.2.2.2.1) (o : Nat) (x1 : Int32) (s t : XS) (v : Unit) (h : j3_ensureCapacityInternal o x1 s = some (v, t)) : xMet l yJ3_ensureCapacityInternal (ws_ yJ3_ensureCapacityInternal cJ3_ensureCapacityInternal 3 none) 3 82 G (xI s) [.ref o, .int x1] (eU v) (xI t) :=
  xMet_of (E := xI) (enc := eU) (by decide +kernel) (Nat.le_of_ble_eq_true rfl) (fun X hl hG O hr hm => by subst hl; subst hG; exact wk_J3_ensureCapacityInternal O hfl hg hr hm o x1 s) h
theorem hd_J3_isLatin1 : yJ3_isLatin1.cls ≠ "java/lang/invoke/MethodHandle" ∧ yJ3_isLatin1.cls ≠ "java/lang/invoke/VarHandle" ∧ (parseMethodDescriptor yJ3_isLatin1.desc).map (fun d => d.parameters.length) = some 0 := by decide +kernel
theorem hv_J3_isLatin1 : yJ3_isLatin1.cls = RJ3 ∧ yJ3_isLatin1.cls ≠ "java/lang/invoke/MethodHandle" ∧ yJ3_isLatin1.cls ≠ "java/lang/invoke/VarHandle" ∧ (parseMethodDescriptor yJ3_isLatin1.desc).map (fun d => d.parameters.length) = some 0 := ⟨rfl, hd_J3_isLatin1⟩
theorem hu_J3_isLatin1 : yJ3_isLatin1.name ≠ "<init>" ∧ (parseMethodDescriptor yJ3_isLatin1.desc).map (fun d => d.parameters.length) = some 0 := ⟨by decide +kernel, hd_J3_isLatin1.2.2⟩
set_option maxHeartbeats 4000000 in
set_option maxRecDepth 100000 in
theorem wk_J3_isLatin1 {X : XC} (O : XOk X cJ3_isLatin1 RJ3 0 0) (hfl : (xL X).stackTraces = false) (hg : (xG X).2.2.2.2 = zAll (xG X).1.1 (xG X).1.2.2.2 (xG X).2.2.2.1) (hr : (xMeth X).sig.returnType = (some .boolean)) (hm : (xC X).maxLocals = 1) (o : Nat) (s : XS) : Sim X xI (retC X eI xI) 0 [(0, .ref o)] [] s (j3_isLatin1 o s) := by
  have hzz := O.hst
  rw [hg] at hzz
  unfold j3_isLatin1
  refine x_getstI O (x := 1) (zz_cs hzz) q396 (fun _ h => h) dJ3_isLatin1_0 ?_
  refine s_if_eq O (tgt := 17) dJ3_isLatin1_3 (by decide) ?_ ?_
  · refine s_iconst O (x := 0) (by decide) dJ3_isLatin1_17 ?_
    exact s_zreturnK O hr rfl rfl dJ3_isLatin1_18
  · refine s_aload_n O 0 rfl rfl dJ3_isLatin1_6 ?_
    refine x_get O (ci := 9) (T := TJ4) (N := 4) in_J4 rfl 1 (by decide) q406 (fun _ h => h) dJ3_isLatin1_7 (fun v0 => ?_)
    refine s_vI (fun u1 => ?_)
    refine s_if_ne O (tgt := 17) dJ3_isLatin1_10 (by decide) ?_ ?_
    · refine s_iconst O (x := 0) (by decide) dJ3_isLatin1_17 ?_
      exact s_zreturnK O hr rfl rfl dJ3_isLatin1_18
    · refine s_iconst O (x := 1) (by decide) dJ3_isLatin1_13 ?_
      refine s_goto O (tgt := 18) dJ3_isLatin1_14 (by decide) ?_
      exact s_zreturnK O hr rfl rfl dJ3_isLatin1_18
theorem mt_J3_isLatin1 (l : Launch) (G : XG) (hfl : l.stackTraces = false) (hg : G.2.2.2.2 = zAll G.1.1 G.1.2.2.2 G.2.2.2.1) (o : Nat) (s t : XS) (v : Int32) (h : j3_isLatin1 o s = some (v, t)) : xMet l yJ3_isLatin1 (ws_ yJ3_isLatin1 cJ3_isLatin1 1 (some .boolean)) 0 0 G (xI s) [.ref o] (eI v) (xI t) :=
  xMet_of (E := xI) (enc := eI) (by decide +kernel) (Nat.le_of_ble_eq_true rfl) (fun X hl hG O hr hm => by subst hl; subst hG; exact wk_J3_isLatin1 O hfl hg hr hm o s) h
theorem hd_J6_length : yJ6_length.cls ≠ "java/lang/invoke/MethodHandle" ∧ yJ6_length.cls ≠ "java/lang/invoke/VarHandle" ∧ (parseMethodDescriptor yJ6_length.desc).map (fun d => d.parameters.length) = some 1 := by decide +kernel
theorem hv_J6_length : yJ6_length.cls = RJ6 ∧ yJ6_length.cls ≠ "java/lang/invoke/MethodHandle" ∧ yJ6_length.cls ≠ "java/lang/invoke/VarHandle" ∧ (parseMethodDescriptor yJ6_length.desc).map (fun d => d.parameters.length) = some 1 := ⟨rfl, hd_J6_length⟩
theorem hu_J6_length : yJ6_length.name ≠ "<init>" ∧ (parseMethodDescriptor yJ6_length.desc).map (fun d => d.parameters.length) = some 1 := ⟨by decide +kernel, hd_J6_length.2.2⟩
set_option maxHeartbeats 4000000 in
set_option maxRecDepth 100000 in
theorem wk_J6_length {X : XC} (O : XOk X cJ6_length RJ6 0 0) (hfl : (xL X).stackTraces = false) (hg : (xG X).2.2.2.2 = zAll (xG X).1.1 (xG X).1.2.2.2 (xG X).2.2.2.1) (hr : (xMeth X).sig.returnType = (some .int)) (hm : (xC X).maxLocals = 1) (x0 : Nat) (s : XS) : Sim X xI (retC X eI xI) 0 [(0, .ref x0)] [] s (j6_length x0 s) := by
  have hzz := O.hst
  rw [hg] at hzz
  unfold j6_length
  refine s_aload_n O 0 rfl rfl dJ6_length_0 ?_
  refine x_alen O dJ6_length_1 (fun u1 => ?_)
  refine s_iconst O (x := 1) (by decide) dJ6_length_2 ?_
  refine s_ishr O dJ6_length_3 ?_
  exact s_ireturn O hr rfl dJ6_length_4
theorem mt_J6_length (l : Launch) (G : XG) (hfl : l.stackTraces = false) (hg : G.2.2.2.2 = zAll G.1.1 G.1.2.2.2 G.2.2.2.1) (x0 : Nat) (s t : XS) (v : Int32) (h : j6_length x0 s = some (v, t)) : xMet l yJ6_length (ws_ yJ6_length cJ6_length 1 (some .int)) 0 0 G (xI s) [.ref x0] (eI v) (xI t) :=
  xMet_of (E := xI) (enc := eI) (by decide +kernel) (Nat.le_of_ble_eq_true rfl) (fun X hl hG O hr hm => by subst hl; subst hG; exact wk_J6_length O hfl hg hr hm x0 s) h
theorem hd_J3_inflate : yJ3_inflate.cls ≠ "java/lang/invoke/MethodHandle" ∧ yJ3_inflate.cls ≠ "java/lang/invoke/VarHandle" ∧ (parseMethodDescriptor yJ3_inflate.desc).map (fun d => d.parameters.length) = some 0 := by decide +kernel
theorem hv_J3_inflate : yJ3_inflate.cls = RJ3 ∧ yJ3_inflate.cls ≠ "java/lang/invoke/MethodHandle" ∧ yJ3_inflate.cls ≠ "java/lang/invoke/VarHandle" ∧ (parseMethodDescriptor yJ3_inflate.desc).map (fun d => d.parameters.length) = some 0 := ⟨rfl, hd_J3_inflate⟩
theorem hu_J3_inflate : yJ3_inflate.name ≠ "<init>" ∧ (parseMethodDescriptor yJ3_inflate.desc).map (fun d => d.parameters.length) = some 0 := ⟨by decide +kernel, hd_J3_inflate.2.2⟩
set_option maxHeartbeats 4000000 in
set_option maxRecDepth 100000 in
theorem wk_J3_inflate {X : XC} (O : XOk X cJ3_inflate RJ3 2 40) (hfl : (xL X).stackTraces = false) (hg : (xG X).2.2.2.2 = zAll (xG X).1.1 (xG X).1.2.2.2 (xG X).2.2.2.1) (hr : (xMeth X).sig.returnType = none) (hm : (xC X).maxLocals = 2) (o : Nat) (s : XS) : Sim X xI (retC X eU xI) 0 [(0, .ref o)] [] s (j3_inflate o s) := by
  have hzz := O.hst
  rw [hg] at hzz
  unfold j3_inflate
  refine s_aload_n O 0 rfl rfl dJ3_inflate_0 ?_
  refine x_callU O (enc2 := eI) (ci := 9) (av := []) (rest := []) 0 (fun v0 t0 h0 => mt_J3_isLatin1 (xL X) (xG X) hfl hg o _ t0 v0 h0) q464 q464 q461 q460 q462 (O.hts _ q463) q461 q138 hv_J3_isLatin1 ⟨Nat.le_of_ble_eq_true rfl, Nat.le_of_ble_eq_true rfl⟩ rfl rfl (Nat.le_of_ble_eq_true rfl) dJ3_inflate_1 (fun v1 s2 => ?_)
  refine s_if_ne O (tgt := 8) dJ3_inflate_4 (by decide) ?_ ?_
  · exact Sim.none
  · exact s_return O hr rfl dJ3_inflate_7
theorem mt_J3_inflate (l : Launch) (G : XG) (hfl : l.stackTraces = false) (hg : G.2.2.2.2 = zAll G.1.1 G.1.2.2.2 G.2.2.2.1) (o : Nat) (s t : XS) (v : Unit) (h : j3_inflate o s = some (v, t)) : xMet l yJ3_inflate (ws_ yJ3_inflate cJ3_inflate 2 none) 2 40 G (xI s) [.ref o] (eU v) (xI t) :=
  xMet_of (E := xI) (enc := eU) (by decide +kernel) (Nat.le_of_ble_eq_true rfl) (fun X hl hG O hr hm => by subst hl; subst hG; exact wk_J3_inflate O hfl hg hr hm o s) h
theorem hd_J10_canEncode : yJ10_canEncode.cls ≠ "java/lang/invoke/MethodHandle" ∧ yJ10_canEncode.cls ≠ "java/lang/invoke/VarHandle" ∧ (parseMethodDescriptor yJ10_canEncode.desc).map (fun d => d.parameters.length) = some 1 := by decide +kernel
set_option maxHeartbeats 4000000 in
set_option maxRecDepth 100000 in
theorem wk_J10_canEncode {X : XC} {w0 : XS} (O : XOk X cJ10_canEncode RJ10 0 0) (hr : (xMeth X).sig.returnType = some .boolean) (hm : (xC X).maxLocals = 1) (x0 : Int32) (s : Unit) : Sim X (fun _ : Unit => w0) (retC X eI (fun _ : Unit => w0)) 0 [(0, .int x0)] [] s (j10_canEncode x0 s) := by
  unfold j10_canEncode
  refine s_iload_n O 0 rfl rfl dJ10_canEncode_0 ?_
  refine s_sipush O (x := 255) (by decide) dJ10_canEncode_1 ?_
  refine s_icmp_gt O (tgt := 11) dJ10_canEncode_4 (by decide) ?_ ?_
  · refine s_iconst O (x := 0) (by decide) dJ10_canEncode_11 ?_
    exact s_zreturnK O hr rfl rfl dJ10_canEncode_12
  · refine s_iconst O (x := 1) (by decide) dJ10_canEncode_7 ?_
    refine s_goto O (tgt := 12) dJ10_canEncode_8 (by decide) ?_
    exact s_zreturnK O hr rfl rfl dJ10_canEncode_12
theorem mt_J10_canEncode (l : Launch) (G : XG) (w0 : XS) (x0 : Int32) (v : Int32) (h : j10_canEncode x0 () = some (v, ())) : xMet l yJ10_canEncode (ws_ yJ10_canEncode cJ10_canEncode 1 (some .boolean)) 0 0 G w0 [.int x0] (eI v) w0 :=
  xMet_of (E := fun _ : Unit => w0) (enc := eI) (t := ()) (by decide +kernel) (Nat.le_of_ble_eq_true rfl) (fun X hl hG O hr hm => wk_J10_canEncode O hr hm x0 ()) h
theorem hd_J3_append : yJ3_append.cls ≠ "java/lang/invoke/MethodHandle" ∧ yJ3_append.cls ≠ "java/lang/invoke/VarHandle" ∧ (parseMethodDescriptor yJ3_append.desc).map (fun d => d.parameters.length) = some 1 := by decide +kernel
theorem hv_J3_append : yJ3_append.cls = RJ3 ∧ yJ3_append.cls ≠ "java/lang/invoke/MethodHandle" ∧ yJ3_append.cls ≠ "java/lang/invoke/VarHandle" ∧ (parseMethodDescriptor yJ3_append.desc).map (fun d => d.parameters.length) = some 1 := ⟨rfl, hd_J3_append⟩
theorem hu_J3_append : yJ3_append.name ≠ "<init>" ∧ (parseMethodDescriptor yJ3_append.desc).map (fun d => d.parameters.length) = some 1 := ⟨by decide +kernel, hd_J3_append.2.2⟩
set_option maxHeartbeats 4000000 in
set_option maxRecDepth 100000 in
theorem wk_J3_append {X : XC} (O : XOk X cJ3_append RJ3 4 104) (hfl : (xL X).stackTraces = false) (hg : (xG X).2.2.2.2 = zAll (xG X).1.1 (xG X).1.2.2.2 (xG X).2.2.2.1) (hr : (xMeth X).sig.returnType = (some (.object "java/lang/AbstractStringBuilder"))) (hm : (xC X).maxLocals = 2) (o : Nat) (x1 : Int32) (s : XS) : Sim X xI (retC X eR xI) 0 [(0, .ref o), (1, .int x1)] [] s (j3_append o x1 s) := by
  have hzz := O.hst
  rw [hg] at hzz
  unfold j3_append
  have hj45 : ∀ (s6 : XS), Sim X (xI) (retC X eR xI) 45 [(0, .ref o), (1, .int x1)] [] s6 (j3_append_j45 o s6) := by
    intro s6
    unfold j3_append_j45
    refine s_aload_n O 0 rfl rfl dJ3_append_45 ?_
    refine x_callU O (enc2 := eI) (ci := 9) (av := []) (rest := []) 0 (fun v0 t0 h0 => mt_J3_isLatin1 (xL X) (xG X) hfl hg o _ t0 v0 h0) q464 q464 q461 q460 q462 (O.hts _ q463) q461 q138 hv_J3_isLatin1 ⟨Nat.le_of_ble_eq_true rfl, Nat.le_of_ble_eq_true rfl⟩ rfl rfl (Nat.le_of_ble_eq_true rfl) dJ3_append_46 (fun v7 s8 => ?_)
    refine s_if_eq O (tgt := 56) dJ3_append_49 (by decide) ?_ ?_
    · exact Sim.none
    · exact Sim.none
  refine s_aload_n O 0 rfl rfl dJ3_append_0 ?_
  refine s_aload_n O 0 rfl rfl dJ3_append_1 ?_
  refine x_get O (ci := 9) (T := TJ4) (N := 4) in_J4 rfl 3 (by decide) q408 (fun _ h => h) dJ3_append_2 (fun v0 => ?_)
  refine s_vI (fun u1 => ?_)
  refine s_iconst O (x := 1) (by decide) dJ3_append_5 ?_
  refine s_iadd O dJ3_append_6 ?_
  refine x_callU O (enc2 := eU) (ci := 9) (av := [.int (u1 + 1)]) (rest := []) 1 (fun v0 t0 h0 => mt_J3_ensureCapacityInternal (xL X) (xG X) hfl hg o (u1 + 1) _ t0 v0 h0) q428 q428 q427 q425 q2100 (u_selP O.hK.1 (ci := 9) rfl (zp_0 hzz) (O.hts _ q2100) (O.hts _ q427)) q427 q138 hv_J3_ensureCapacityInternal ⟨Nat.le_of_ble_eq_true rfl, Nat.le_of_ble_eq_true rfl⟩ rfl rfl (Nat.le_of_ble_eq_true rfl) dJ3_append_7 (fun v2 s3 => ?_)
  refine s_aload_n O 0 rfl rfl dJ3_append_10 ?_
  refine x_callU O (enc2 := eI) (ci := 9) (av := []) (rest := []) 0 (fun v0 t0 h0 => mt_J3_isLatin1 (xL X) (xG X) hfl hg o _ t0 v0 h0) q464 q464 q461 q460 q462 (O.hts _ q463) q461 q138 hv_J3_isLatin1 ⟨Nat.le_of_ble_eq_true rfl, Nat.le_of_ble_eq_true rfl⟩ rfl rfl (Nat.le_of_ble_eq_true rfl) dJ3_append_11 (fun v4 s5 => ?_)
  refine s_if_eq O (tgt := 45) dJ3_append_14 (by decide) ?_ ?_
  · exact hj45 _
  · refine s_iload_n O 1 rfl rfl dJ3_append_17 ?_
    refine s_callP O (enc2 := eI) (av := [.int x1]) (rest := []) 1 (fun v0 h0 => mt_J10_canEncode (xL X) (xG X) _ x1 v0 h0) (lw_S q465 q466 q146 q467) hd_J10_canEncode ⟨Nat.le_of_ble_eq_true rfl, Nat.le_of_ble_eq_true rfl⟩ rfl (Nat.le_of_ble_eq_true rfl) dJ3_append_18 (fun v19 => ?_)
    refine s_if_eq O (tgt := 45) dJ3_append_21 (by decide) ?_ ?_
    · exact hj45 _
    · refine s_aload_n O 0 rfl rfl dJ3_append_24 ?_
      refine x_get O (ci := 9) (T := TJ4) (N := 4) in_J4 rfl 0 (by decide) q405 (fun _ h => h) dJ3_append_25 (fun v0 => ?_)
      refine s_vR (fun r21 => ?_)
      refine s_aload_n O 0 rfl rfl dJ3_append_28 ?_
      refine s_dup O rfl dJ3_append_29 ?_
      refine x_get O (ci := 9) (T := TJ4) (N := 4) in_J4 rfl 3 (by decide) q408 (fun _ h => h) dJ3_append_30 (fun v0 => ?_)
      refine s_vI (fun u22 => ?_)
      refine s_dup_x1 O rfl rfl dJ3_append_33 ?_
      refine s_iconst O (x := 1) (by decide) dJ3_append_34 ?_
      refine s_iadd O dJ3_append_35 ?_
      refine x_put O (ci := 9) (T := TJ4) (N := 4) (ty := .int) in_J4 tyJ4 tyJ4_ok nmJ4 rfl 3 (by decide) q408 (fun _ h => h) rfl (by decide +kernel) rfl rfl dJ3_append_36 (fun s23 => ?_)
      refine s_iload_n O 1 rfl rfl dJ3_append_39 ?_
      refine s_i2b O dJ3_append_40 ?_
      refine s_dr (fun p24 hp25 => ?_)
      subst hp25
      refine x_bast O dJ3_append_41 (fun s26 => ?_)
      refine s_goto O (tgt := 75) dJ3_append_42 (by decide) ?_
      refine s_aload_n O 0 rfl rfl dJ3_append_75 ?_
      exact s_areturnQ O (r := (some o)) hr (Or.inl ⟨_, rfl⟩) rfl dJ3_append_76
theorem mt_J3_append (l : Launch) (G : XG) (hfl : l.stackTraces = false) (hg : G.2.2.2.2 = zAll G.1.1 G.1.2.2.2 G.2.2.2.1) (o : Nat) (x1 : Int32) (s t : XS) (v : Option Nat) (h : j3_append o x1 s = some (v, t)) : xMet l yJ3_append (ws_ yJ3_append cJ3_append 2 (some (.object "java/lang/AbstractStringBuilder"))) 4 104 G (xI s) [.ref o, .int x1] (eR v) (xI t) :=
  xMet_of (E := xI) (enc := eR) (by decide +kernel) (Nat.le_of_ble_eq_true rfl) (fun X hl hG O hr hm => by subst hl; subst hG; exact wk_J3_append O hfl hg hr hm o x1 s) h
theorem hd_J4_append : yJ4_append.cls ≠ "java/lang/invoke/MethodHandle" ∧ yJ4_append.cls ≠ "java/lang/invoke/VarHandle" ∧ (parseMethodDescriptor yJ4_append.desc).map (fun d => d.parameters.length) = some 1 := by decide +kernel
theorem hv_J4_append : yJ4_append.cls = RJ4 ∧ yJ4_append.cls ≠ "java/lang/invoke/MethodHandle" ∧ yJ4_append.cls ≠ "java/lang/invoke/VarHandle" ∧ (parseMethodDescriptor yJ4_append.desc).map (fun d => d.parameters.length) = some 1 := ⟨rfl, hd_J4_append⟩
theorem hu_J4_append : yJ4_append.name ≠ "<init>" ∧ (parseMethodDescriptor yJ4_append.desc).map (fun d => d.parameters.length) = some 1 := ⟨by decide +kernel, hd_J4_append.2.2⟩
set_option maxHeartbeats 4000000 in
set_option maxRecDepth 100000 in
theorem wk_J4_append {X : XC} (O : XOk X cJ4_append RJ4 5 125) (hfl : (xL X).stackTraces = false) (hg : (xG X).2.2.2.2 = zAll (xG X).1.1 (xG X).1.2.2.2 (xG X).2.2.2.1) (hr : (xMeth X).sig.returnType = (some (.object "java/lang/StringBuilder"))) (hm : (xC X).maxLocals = 2) (o : Nat) (x1 : Int32) (s : XS) : Sim X xI (retC X eR xI) 0 [(0, .ref o), (1, .int x1)] [] s (j4_append o x1 s) := by
  have hzz := O.hst
  rw [hg] at hzz
  unfold j4_append
  refine s_aload_n O 0 rfl rfl dJ4_append_0 ?_
  refine s_iload_n O 1 rfl rfl dJ4_append_1 ?_
  refine x_callSU O (enc2 := eR) (ci := 9) (av := [.int x1]) (rest := []) 1 (fun v0 t0 h0 => mt_J3_append (xL X) (xG X) hfl hg o x1 _ t0 v0 h0) (lw_good (lw_su q422 q2099 q417 q423 q138 q424)) hu_J3_append ⟨Nat.le_of_ble_eq_true rfl, Nat.le_of_ble_eq_true rfl⟩ rfl rfl (Nat.le_of_ble_eq_true rfl) dJ4_append_2 (fun r1 s2 => ?_)
  refine s_pop O (va_cat _) dJ4_append_5 ?_
  refine s_aload_n O 0 rfl rfl dJ4_append_6 ?_
  exact s_areturnQ O (r := (some o)) hr (Or.inl ⟨_, rfl⟩) rfl dJ4_append_7
theorem mt_J4_append (l : Launch) (G : XG) (hfl : l.stackTraces = false) (hg : G.2.2.2.2 = zAll G.1.1 G.1.2.2.2 G.2.2.2.1) (o : Nat) (x1 : Int32) (s t : XS) (v : Option Nat) (h : j4_append o x1 s = some (v, t)) : xMet l yJ4_append (ws_ yJ4_append cJ4_append 2 (some (.object "java/lang/StringBuilder"))) 5 125 G (xI s) [.ref o, .int x1] (eR v) (xI t) :=
  xMet_of (E := xI) (enc := eR) (by decide +kernel) (Nat.le_of_ble_eq_true rfl) (fun X hl hG O hr hm => by subst hl; subst hG; exact wk_J4_append O hfl hg hr hm o x1 s) h
theorem hd_J3_getValue : yJ3_getValue.cls ≠ "java/lang/invoke/MethodHandle" ∧ yJ3_getValue.cls ≠ "java/lang/invoke/VarHandle" ∧ (parseMethodDescriptor yJ3_getValue.desc).map (fun d => d.parameters.length) = some 0 := by decide +kernel
theorem hv_J3_getValue : yJ3_getValue.cls = RJ3 ∧ yJ3_getValue.cls ≠ "java/lang/invoke/MethodHandle" ∧ yJ3_getValue.cls ≠ "java/lang/invoke/VarHandle" ∧ (parseMethodDescriptor yJ3_getValue.desc).map (fun d => d.parameters.length) = some 0 := ⟨rfl, hd_J3_getValue⟩
theorem hu_J3_getValue : yJ3_getValue.name ≠ "<init>" ∧ (parseMethodDescriptor yJ3_getValue.desc).map (fun d => d.parameters.length) = some 0 := ⟨by decide +kernel, hd_J3_getValue.2.2⟩
set_option maxHeartbeats 4000000 in
set_option maxRecDepth 100000 in
theorem wk_J3_getValue {X : XC} (O : XOk X cJ3_getValue RJ3 0 0) (hfl : (xL X).stackTraces = false) (hg : (xG X).2.2.2.2 = zAll (xG X).1.1 (xG X).1.2.2.2 (xG X).2.2.2.1) (hr : (xMeth X).sig.returnType = (some (.array .byte))) (hm : (xC X).maxLocals = 1) (o : Nat) (s : XS) : Sim X xI (retC X eR xI) 0 [(0, .ref o)] [] s (j3_getValue o s) := by
  have hzz := O.hst
  rw [hg] at hzz
  unfold j3_getValue
  refine s_aload_n O 0 rfl rfl dJ3_getValue_0 ?_
  refine x_get O (ci := 9) (T := TJ4) (N := 4) in_J4 rfl 0 (by decide) q405 (fun _ h => h) dJ3_getValue_1 (fun v0 => ?_)
  refine s_vR (fun r1 => ?_)
  exact s_areturnQ O (r := r1) hr (Or.inr ⟨_, rfl⟩) rfl dJ3_getValue_4
theorem mt_J3_getValue (l : Launch) (G : XG) (hfl : l.stackTraces = false) (hg : G.2.2.2.2 = zAll G.1.1 G.1.2.2.2 G.2.2.2.1) (o : Nat) (s t : XS) (v : Option Nat) (h : j3_getValue o s = some (v, t)) : xMet l yJ3_getValue (ws_ yJ3_getValue cJ3_getValue 1 (some (.array .byte))) 0 0 G (xI s) [.ref o] (eR v) (xI t) :=
  xMet_of (E := xI) (enc := eR) (by decide +kernel) (Nat.le_of_ble_eq_true rfl) (fun X hl hG O hr hm => by subst hl; subst hG; exact wk_J3_getValue O hfl hg hr hm o s) h
theorem hd_J3_length : yJ3_length.cls ≠ "java/lang/invoke/MethodHandle" ∧ yJ3_length.cls ≠ "java/lang/invoke/VarHandle" ∧ (parseMethodDescriptor yJ3_length.desc).map (fun d => d.parameters.length) = some 0 := by decide +kernel
theorem hv_J3_length : yJ3_length.cls = RJ3 ∧ yJ3_length.cls ≠ "java/lang/invoke/MethodHandle" ∧ yJ3_length.cls ≠ "java/lang/invoke/VarHandle" ∧ (parseMethodDescriptor yJ3_length.desc).map (fun d => d.parameters.length) = some 0 := ⟨rfl, hd_J3_length⟩
theorem hu_J3_length : yJ3_length.name ≠ "<init>" ∧ (parseMethodDescriptor yJ3_length.desc).map (fun d => d.parameters.length) = some 0 := ⟨by decide +kernel, hd_J3_length.2.2⟩
set_option maxHeartbeats 4000000 in
set_option maxRecDepth 100000 in
theorem wk_J3_length {X : XC} (O : XOk X cJ3_length RJ3 0 0) (hfl : (xL X).stackTraces = false) (hg : (xG X).2.2.2.2 = zAll (xG X).1.1 (xG X).1.2.2.2 (xG X).2.2.2.1) (hr : (xMeth X).sig.returnType = (some .int)) (hm : (xC X).maxLocals = 1) (o : Nat) (s : XS) : Sim X xI (retC X eI xI) 0 [(0, .ref o)] [] s (j3_length o s) := by
  have hzz := O.hst
  rw [hg] at hzz
  unfold j3_length
  refine s_aload_n O 0 rfl rfl dJ3_length_0 ?_
  refine x_get O (ci := 9) (T := TJ4) (N := 4) in_J4 rfl 3 (by decide) q408 (fun _ h => h) dJ3_length_1 (fun v0 => ?_)
  refine s_vI (fun u1 => ?_)
  exact s_ireturn O hr rfl dJ3_length_4
theorem mt_J3_length (l : Launch) (G : XG) (hfl : l.stackTraces = false) (hg : G.2.2.2.2 = zAll G.1.1 G.1.2.2.2 G.2.2.2.1) (o : Nat) (s t : XS) (v : Int32) (h : j3_length o s = some (v, t)) : xMet l yJ3_length (ws_ yJ3_length cJ3_length 1 (some .int)) 0 0 G (xI s) [.ref o] (eI v) (xI t) :=
  xMet_of (E := xI) (enc := eI) (by decide +kernel) (Nat.le_of_ble_eq_true rfl) (fun X hl hG O hr hm => by subst hl; subst hG; exact wk_J3_length O hfl hg hr hm o s) h
theorem hd_J4_length : yJ4_length.cls ≠ "java/lang/invoke/MethodHandle" ∧ yJ4_length.cls ≠ "java/lang/invoke/VarHandle" ∧ (parseMethodDescriptor yJ4_length.desc).map (fun d => d.parameters.length) = some 0 := by decide +kernel
theorem hv_J4_length : yJ4_length.cls = RJ4 ∧ yJ4_length.cls ≠ "java/lang/invoke/MethodHandle" ∧ yJ4_length.cls ≠ "java/lang/invoke/VarHandle" ∧ (parseMethodDescriptor yJ4_length.desc).map (fun d => d.parameters.length) = some 0 := ⟨rfl, hd_J4_length⟩
theorem hu_J4_length : yJ4_length.name ≠ "<init>" ∧ (parseMethodDescriptor yJ4_length.desc).map (fun d => d.parameters.length) = some 0 := ⟨by decide +kernel, hd_J4_length.2.2⟩
set_option maxHeartbeats 4000000 in
set_option maxRecDepth 100000 in
theorem wk_J4_length {X : XC} (O : XOk X cJ4_length RJ4 1 20) (hfl : (xL X).stackTraces = false) (hg : (xG X).2.2.2.2 = zAll (xG X).1.1 (xG X).1.2.2.2 (xG X).2.2.2.1) (hr : (xMeth X).sig.returnType = (some .int)) (hm : (xC X).maxLocals = 1) (o : Nat) (s : XS) : Sim X xI (retC X eI xI) 0 [(0, .ref o)] [] s (j4_length o s) := by
  have hzz := O.hst
  rw [hg] at hzz
  unfold j4_length
  refine s_aload_n O 0 rfl rfl dJ4_length_0 ?_
  refine x_callSU O (enc2 := eI) (ci := 9) (av := []) (rest := []) 0 (fun v0 t0 h0 => mt_J3_length (xL X) (xG X) hfl hg o _ t0 v0 h0) (lw_good (lw_su q537 q533 q417 q532 q138 q538)) hu_J3_length ⟨Nat.le_of_ble_eq_true rfl, Nat.le_of_ble_eq_true rfl⟩ rfl rfl (Nat.le_of_ble_eq_true rfl) dJ4_length_1 (fun v1 s2 => ?_)
  exact s_ireturn O hr rfl dJ4_length_4
theorem mt_J4_length (l : Launch) (G : XG) (hfl : l.stackTraces = false) (hg : G.2.2.2.2 = zAll G.1.1 G.1.2.2.2 G.2.2.2.1) (o : Nat) (s t : XS) (v : Int32) (h : j4_length o s = some (v, t)) : xMet l yJ4_length (ws_ yJ4_length cJ4_length 1 (some .int)) 1 20 G (xI s) [.ref o] (eI v) (xI t) :=
  xMet_of (E := xI) (enc := eI) (by decide +kernel) (Nat.le_of_ble_eq_true rfl) (fun X hl hG O hr hm => by subst hl; subst hG; exact wk_J4_length O hfl hg hr hm o s) h
theorem hd_J9_checkLength : yJ9_checkLength.cls ≠ "java/lang/invoke/MethodHandle" ∧ yJ9_checkLength.cls ≠ "java/lang/invoke/VarHandle" ∧ (parseMethodDescriptor yJ9_checkLength.desc).map (fun d => d.parameters.length) = some 2 := by decide +kernel
theorem hv_J9_checkLength : yJ9_checkLength.cls = RJ9 ∧ yJ9_checkLength.cls ≠ "java/lang/invoke/MethodHandle" ∧ yJ9_checkLength.cls ≠ "java/lang/invoke/VarHandle" ∧ (parseMethodDescriptor yJ9_checkLength.desc).map (fun d => d.parameters.length) = some 2 := ⟨rfl, hd_J9_checkLength⟩
theorem hu_J9_checkLength : yJ9_checkLength.name ≠ "<init>" ∧ (parseMethodDescriptor yJ9_checkLength.desc).map (fun d => d.parameters.length) = some 2 := ⟨by decide +kernel, hd_J9_checkLength.2.2⟩
set_option maxHeartbeats 4000000 in
set_option maxRecDepth 100000 in
theorem wk_J9_checkLength {X : XC} (O : XOk X cJ9_checkLength RJ9 0 0) (hfl : (xL X).stackTraces = false) (hg : (xG X).2.2.2.2 = zAll (xG X).1.1 (xG X).1.2.2.2 (xG X).2.2.2.1) (hr : (xMeth X).sig.returnType = none) (hm : (xC X).maxLocals = 2) (x0 : Int32) (x1 : Int32) (s : XS) : Sim X xI (retC X eU xI) 0 [(0, .int x0), (1, .int x1)] [] s (j9_checkLength x0 x1 s) := by
  have hzz := O.hst
  rw [hg] at hzz
  unfold j9_checkLength
  refine s_iload_n O 1 rfl rfl dJ9_checkLength_0 ?_
  refine s_iload_n O 0 rfl rfl dJ9_checkLength_1 ?_
  refine s_icmp_ge O (tgt := 37) dJ9_checkLength_2 (by decide) ?_ ?_
  · exact s_return O hr rfl dJ9_checkLength_37
  · exact Sim.none
theorem mt_J9_checkLength (l : Launch) (G : XG) (hfl : l.stackTraces = false) (hg : G.2.2.2.2 = zAll G.1.1 G.1.2.2.2 G.2.2.2.1) (x0 : Int32) (x1 : Int32) (s t : XS) (v : Unit) (h : j9_checkLength x0 x1 s = some (v, t)) : xMet l yJ9_checkLength (ws_ yJ9_checkLength cJ9_checkLength 2 none) 0 0 G (xI s) [.int x0, .int x1] (eU v) (xI t) :=
  xMet_of (E := xI) (enc := eU) (by decide +kernel) (Nat.le_of_ble_eq_true rfl) (fun X hl hG O hr hm => by subst hl; subst hG; exact wk_J9_checkLength O hfl hg hr hm x0 x1 s) h
theorem hd_J9_copyOfRangeByte : yJ9_copyOfRangeByte.cls ≠ "java/lang/invoke/MethodHandle" ∧ yJ9_copyOfRangeByte.cls ≠ "java/lang/invoke/VarHandle" ∧ (parseMethodDescriptor yJ9_copyOfRangeByte.desc).map (fun d => d.parameters.length) = some 3 := by decide +kernel
theorem hv_J9_copyOfRangeByte : yJ9_copyOfRangeByte.cls = RJ9 ∧ yJ9_copyOfRangeByte.cls ≠ "java/lang/invoke/MethodHandle" ∧ yJ9_copyOfRangeByte.cls ≠ "java/lang/invoke/VarHandle" ∧ (parseMethodDescriptor yJ9_copyOfRangeByte.desc).map (fun d => d.parameters.length) = some 3 := ⟨rfl, hd_J9_copyOfRangeByte⟩
theorem hu_J9_copyOfRangeByte : yJ9_copyOfRangeByte.name ≠ "<init>" ∧ (parseMethodDescriptor yJ9_copyOfRangeByte.desc).map (fun d => d.parameters.length) = some 3 := ⟨by decide +kernel, hd_J9_copyOfRangeByte.2.2⟩
set_option maxHeartbeats 4000000 in
set_option maxRecDepth 100000 in
theorem wk_J9_copyOfRangeByte {X : XC} (O : XOk X cJ9_copyOfRangeByte RJ9 1 60) (hfl : (xL X).stackTraces = false) (hg : (xG X).2.2.2.2 = zAll (xG X).1.1 (xG X).1.2.2.2 (xG X).2.2.2.1) (hr : (xMeth X).sig.returnType = (some (.array .byte))) (hm : (xC X).maxLocals = 5) (x0 : Nat) (x1 : Int32) (x2 : Int32) (s : XS) : Sim X xI (retC X eR xI) 0 [(0, .ref x0), (1, .int x1), (2, .int x2)] [] s (j9_copyOfRangeByte x0 x1 x2 s) := by
  have hzz := O.hst
  rw [hg] at hzz
  unfold j9_copyOfRangeByte
  refine s_iload_n O 1 rfl rfl dJ9_copyOfRangeByte_0 ?_
  refine s_iload_n O 2 rfl rfl dJ9_copyOfRangeByte_1 ?_
  refine x_callS O (enc2 := eU) (av := [.int x1, .int x2]) (rest := []) 2 (fun v0 t0 h0 => mt_J9_checkLength (xL X) (xG X) hfl hg x1 x2 _ t0 v0 h0) (lw_S q546 q547 q144 q548) hd_J9_checkLength ⟨Nat.le_of_ble_eq_true rfl, Nat.le_of_ble_eq_true rfl⟩ rfl (Nat.le_of_ble_eq_true rfl) dJ9_copyOfRangeByte_2 (fun v1 s2 => ?_)
  refine s_iload_n O 2 rfl rfl dJ9_copyOfRangeByte_5 ?_
  refine s_iload_n O 1 rfl rfl dJ9_copyOfRangeByte_6 ?_
  refine s_isub O dJ9_copyOfRangeByte_7 ?_
  refine s_nmi fun u3 => ?_
  refine s_istore_n O (L' := [(3, .int u3), (0, .ref x0), (1, .int x1), (2, .int x2)]) hm (by decide) rfl rfl dJ9_copyOfRangeByte_8 ?_
  refine s_iload_n O 0 rfl rfl dJ9_copyOfRangeByte_9 ?_
  refine x_newB O q203 dJ9_copyOfRangeByte_10 (fun p4 s5 => ?_)
  refine s_astore O (L' := [(4, .ref p4), (3, .int u3), (0, .ref x0), (1, .int x1), (2, .int x2)]) hm (by decide) rfl dJ9_copyOfRangeByte_12 ?_
  refine s_aload_n O 2 rfl rfl dJ9_copyOfRangeByte_14 ?_
  refine s_iload_n O 3 rfl rfl dJ9_copyOfRangeByte_15 ?_
  refine s_aload O 0 rfl dJ9_copyOfRangeByte_16 ?_
  refine s_iconst O (x := 0) (by decide) dJ9_copyOfRangeByte_18 ?_
  refine s_aload_n O 2 rfl rfl dJ9_copyOfRangeByte_19 ?_
  refine x_alen O dJ9_copyOfRangeByte_20 (fun u6 => ?_)
  refine s_iload_n O 3 rfl rfl dJ9_copyOfRangeByte_21 ?_
  refine s_isub O dJ9_copyOfRangeByte_22 ?_
  refine s_iload_n O 1 rfl rfl dJ9_copyOfRangeByte_23 ?_
  refine s_callP O (enc2 := eI) (av := [.int (u6 - x1), .int u3]) (rest := [.int 0, .ref p4, .int x1, .ref x0]) 2 (fun v0 h0 => mt_J8_min (xL X) (xG X) _ (u6 - x1) u3 v0 h0) (lw_S q454 q455 q143 q456) hd_J8_min ⟨Nat.le_of_ble_eq_true rfl, Nat.le_of_ble_eq_true rfl⟩ rfl (Nat.le_of_ble_eq_true rfl) dJ9_copyOfRangeByte_24 (fun v7 => ?_)
  refine x_acI O (t := 2) (by decide) q457 q459 q458 q145 ⟨Nat.le_of_ble_eq_true rfl, by decide⟩ (Nat.le_of_ble_eq_true rfl) dJ9_copyOfRangeByte_27 (fun s9 => ?_)
  refine s_aload O 0 rfl dJ9_copyOfRangeByte_30 ?_
  exact s_areturnQ O (r := (some p4)) hr (Or.inr ⟨_, rfl⟩) rfl dJ9_copyOfRangeByte_32
theorem mt_J9_copyOfRangeByte (l : Launch) (G : XG) (hfl : l.stackTraces = false) (hg : G.2.2.2.2 = zAll G.1.1 G.1.2.2.2 G.2.2.2.1) (x0 : Nat) (x1 : Int32) (x2 : Int32) (s t : XS) (v : Option Nat) (h : j9_copyOfRangeByte x0 x1 x2 s = some (v, t)) : xMet l yJ9_copyOfRangeByte (ws_ yJ9_copyOfRangeByte cJ9_copyOfRangeByte 5 (some (.array .byte))) 1 60 G (xI s) [.ref x0, .int x1, .int x2] (eR v) (xI t) :=
  xMet_of (E := xI) (enc := eR) (by decide +kernel) (Nat.le_of_ble_eq_true rfl) (fun X hl hG O hr hm => by subst hl; subst hG; exact wk_J9_copyOfRangeByte O hfl hg hr hm x0 x1 x2 s) h
theorem hd_J9_copyOfRange : yJ9_copyOfRange.cls ≠ "java/lang/invoke/MethodHandle" ∧ yJ9_copyOfRange.cls ≠ "java/lang/invoke/VarHandle" ∧ (parseMethodDescriptor yJ9_copyOfRange.desc).map (fun d => d.parameters.length) = some 3 := by decide +kernel
theorem hv_J9_copyOfRange : yJ9_copyOfRange.cls = RJ9 ∧ yJ9_copyOfRange.cls ≠ "java/lang/invoke/MethodHandle" ∧ yJ9_copyOfRange.cls ≠ "java/lang/invoke/VarHandle" ∧ (parseMethodDescriptor yJ9_copyOfRange.desc).map (fun d => d.parameters.length) = some 3 := ⟨rfl, hd_J9_copyOfRange⟩
theorem hu_J9_copyOfRange : yJ9_copyOfRange.name ≠ "<init>" ∧ (parseMethodDescriptor yJ9_copyOfRange.desc).map (fun d => d.parameters.length) = some 3 := ⟨by decide +kernel, hd_J9_copyOfRange.2.2⟩
set_option maxHeartbeats 4000000 in
set_option maxRecDepth 100000 in
theorem wk_J9_copyOfRange {X : XC} (O : XOk X cJ9_copyOfRange RJ9 2 84) (hfl : (xL X).stackTraces = false) (hg : (xG X).2.2.2.2 = zAll (xG X).1.1 (xG X).1.2.2.2 (xG X).2.2.2.1) (hr : (xMeth X).sig.returnType = (some (.array .byte))) (hm : (xC X).maxLocals = 3) (x0 : Nat) (x1 : Int32) (x2 : Int32) (s : XS) : Sim X xI (retC X eR xI) 0 [(0, .ref x0), (1, .int x1), (2, .int x2)] [] s (j9_copyOfRange x0 x1 x2 s) := by
  have hzz := O.hst
  rw [hg] at hzz
  unfold j9_copyOfRange
  refine s_iload_n O 1 rfl rfl dJ9_copyOfRange_0 ?_
  refine s_if_ne O (tgt := 10) dJ9_copyOfRange_1 (by decide) ?_ ?_
  · refine s_aload_n O 0 rfl rfl dJ9_copyOfRange_10 ?_
    refine s_iload_n O 1 rfl rfl dJ9_copyOfRange_11 ?_
    refine s_iload_n O 2 rfl rfl dJ9_copyOfRange_12 ?_
    refine x_callS O (enc2 := eR) (av := [.ref x0, .int x1, .int x2]) (rest := []) 3 (fun v0 t0 h0 => mt_J9_copyOfRangeByte (xL X) (xG X) hfl hg x0 x1 x2 _ t0 v0 h0) (lw_S q543 q544 q144 q545) hd_J9_copyOfRangeByte ⟨Nat.le_of_ble_eq_true rfl, Nat.le_of_ble_eq_true rfl⟩ rfl (Nat.le_of_ble_eq_true rfl) dJ9_copyOfRange_13 (fun r1 s2 => ?_)
    exact s_areturnQ O (r := r1) hr (Or.inr ⟨_, rfl⟩) rfl dJ9_copyOfRange_16
  · refine s_iload_n O 2 rfl rfl dJ9_copyOfRange_4 ?_
    refine s_aload_n O 0 rfl rfl dJ9_copyOfRange_5 ?_
    refine x_alen O dJ9_copyOfRange_6 (fun u3 => ?_)
    refine s_icmp_eq O (tgt := 17) dJ9_copyOfRange_7 (by decide) ?_ ?_
    · refine s_aload_n O 0 rfl rfl dJ9_copyOfRange_17 ?_
      refine x_cloneB O hzz q447 ⟨Nat.le_of_ble_eq_true rfl, Nat.le_of_ble_eq_true rfl⟩ (Nat.le_of_ble_eq_true rfl) dJ9_copyOfRange_18 (fun p4 s5 => ?_)
      refine x_castB O q453 dJ9_copyOfRange_21 ?_
      exact s_areturnQ O (r := (some p4)) hr (Or.inr ⟨_, rfl⟩) rfl dJ9_copyOfRange_24
    · refine s_aload_n O 0 rfl rfl dJ9_copyOfRange_10 ?_
      refine s_iload_n O 1 rfl rfl dJ9_copyOfRange_11 ?_
      refine s_iload_n O 2 rfl rfl dJ9_copyOfRange_12 ?_
      refine x_callS O (enc2 := eR) (av := [.ref x0, .int x1, .int x2]) (rest := []) 3 (fun v0 t0 h0 => mt_J9_copyOfRangeByte (xL X) (xG X) hfl hg x0 x1 x2 _ t0 v0 h0) (lw_S q543 q544 q144 q545) hd_J9_copyOfRangeByte ⟨Nat.le_of_ble_eq_true rfl, Nat.le_of_ble_eq_true rfl⟩ rfl (Nat.le_of_ble_eq_true rfl) dJ9_copyOfRange_13 (fun r6 s7 => ?_)
      exact s_areturnQ O (r := r6) hr (Or.inr ⟨_, rfl⟩) rfl dJ9_copyOfRange_16
theorem mt_J9_copyOfRange (l : Launch) (G : XG) (hfl : l.stackTraces = false) (hg : G.2.2.2.2 = zAll G.1.1 G.1.2.2.2 G.2.2.2.1) (x0 : Nat) (x1 : Int32) (x2 : Int32) (s t : XS) (v : Option Nat) (h : j9_copyOfRange x0 x1 x2 s = some (v, t)) : xMet l yJ9_copyOfRange (ws_ yJ9_copyOfRange cJ9_copyOfRange 3 (some (.array .byte))) 2 84 G (xI s) [.ref x0, .int x1, .int x2] (eR v) (xI t) :=
  xMet_of (E := xI) (enc := eR) (by decide +kernel) (Nat.le_of_ble_eq_true rfl) (fun X hl hG O hr hm => by subst hl; subst hG; exact wk_J9_copyOfRange O hfl hg hr hm x0 x1 x2 s) h
theorem hd_J5_init_2 : yJ5_init_2.cls ≠ "java/lang/invoke/MethodHandle" ∧ yJ5_init_2.cls ≠ "java/lang/invoke/VarHandle" ∧ (parseMethodDescriptor yJ5_init_2.desc).map (fun d => d.parameters.length) = some 2 := by decide +kernel
theorem hv_J5_init_2 : yJ5_init_2.cls = RJ5 ∧ yJ5_init_2.cls ≠ "java/lang/invoke/MethodHandle" ∧ yJ5_init_2.cls ≠ "java/lang/invoke/VarHandle" ∧ (parseMethodDescriptor yJ5_init_2.desc).map (fun d => d.parameters.length) = some 2 := ⟨rfl, hd_J5_init_2⟩
set_option maxHeartbeats 4000000 in
set_option maxRecDepth 100000 in
theorem wk_J5_init_2 {X : XC} (O : XOk X cJ5_init_2 RJ5 3 106) (hfl : (xL X).stackTraces = false) (hg : (xG X).2.2.2.2 = zAll (xG X).1.1 (xG X).1.2.2.2 (xG X).2.2.2.1) (hr : (xMeth X).sig.returnType = none) (hm : (xC X).maxLocals = 5) (hinit : (xMeth X).name = "<init>") (o : Nat) (x1 : Option Nat) (x2 : Option Nat) (s : XS) : Sim X xI (retC X eU xI) 0 [(0, .ref o), (1, va_rf x1), (2, va_rf x2)] [] s (j5_init_2 o x1 x2 s) := by
  have hzz := O.hst
  rw [hg] at hzz
  unfold j5_init_2
  have hj79 : ∀ (x3_79 : Option Nat) (x4_79 : Int32) (s9 : XS), Sim X (xI) (retC X eU xI) 79 [(0, .ref o), (3, va_rf x3_79), (4, .int x4_79)] [] s9 (j5_init_2_j79 o x3_79 x4_79 s9) := by
    intro x3_79 x4_79 s9
    unfold j5_init_2_j79
    refine s_aload_n O 0 rfl rfl dJ5_init_2_79 ?_
    refine s_iconst O (x := 1) (by decide) dJ5_init_2_80 ?_
    refine x_putF O (ci := 10) (T := TJ5) (N := 2) (ty := .byte) in_J5 tyJ5 tyJ5_ok nmJ5 rfl 1 (by decide) q564 (fun _ h => h) rfl hinit rfl (by decide +kernel) (by decide) (by decide) dJ5_init_2_81 (fun s10 => ?_)
    refine s_aload_n O 0 rfl rfl dJ5_init_2_84 ?_
    refine s_aload_nQ O 1 rfl rfl dJ5_init_2_85 ?_
    refine s_iconst O (x := 0) (by decide) dJ5_init_2_86 ?_
    refine s_iload O 2 rfl dJ5_init_2_87 ?_
    refine s_iconst O (x := 1) (by decide) dJ5_init_2_89 ?_
    refine s_ishl O dJ5_init_2_90 ?_
    refine s_dr (fun p11 hp12 => ?_)
    subst hp12
    refine x_callS O (enc2 := eR) (av := [.ref p11, .int 0, .int (x4_79 <<< ((1 : Int32) &&& 31))]) (rest := [.ref o]) 3 (fun v0 t0 h0 => mt_J9_copyOfRange (xL X) (xG X) hfl hg p11 0 (x4_79 <<< ((1 : Int32) &&& 31)) _ t0 v0 h0) (lw_S q540 q541 q144 q542) hd_J9_copyOfRange ⟨Nat.le_of_ble_eq_true rfl, Nat.le_of_ble_eq_true rfl⟩ rfl (Nat.le_of_ble_eq_true rfl) dJ5_init_2_91 (fun r13 s14 => ?_)
    refine x_putF O (ci := 10) (T := TJ5) (N := 2) (ty := (.array .byte)) in_J5 tyJ5 tyJ5_ok nmJ5 rfl 0 (by decide) q563 (fun _ h => h) rfl hinit rfl (by decide +kernel) (nmA _ _) (ftA _ _) dJ5_init_2_94 (fun s15 => ?_)
    exact s_return O hr rfl dJ5_init_2_97
  refine s_aload_n O 0 rfl rfl dJ5_init_2_0 ?_
  refine x_objInit O q525 q163 q164 ⟨Nat.le_of_ble_eq_true rfl, Nat.le_of_ble_eq_true rfl⟩ (Nat.le_of_ble_eq_true rfl) dJ5_init_2_1 ?_
  refine s_aload_nQ O 1 rfl rfl dJ5_init_2_4 ?_
  refine s_dr (fun p1 hp2 => ?_)
  subst hp2
  refine x_callU O (enc2 := eR) (ci := 9) (av := []) (rest := []) 0 (fun v0 t0 h0 => mt_J3_getValue (xL X) (xG X) hfl hg p1 _ t0 v0 h0) q530 q530 q527 q526 q528 (O.hts _ q529) q527 q138 hv_J3_getValue ⟨Nat.le_of_ble_eq_true rfl, Nat.le_of_ble_eq_true rfl⟩ rfl rfl (Nat.le_of_ble_eq_true rfl) dJ5_init_2_5 (fun r3 s4 => ?_)
  refine s_astore_nQ O (r := r3) (L' := [(0, .ref o), (1, .ref p1), (2, va_rf x2)]) rfl hm (by decide) (fun _ => (by generalize x2 = zq0; cases zq0 <;> rfl)) dJ5_init_2_8 ?_
  refine s_aload_n O 2 rfl rfl dJ5_init_2_9 ?_
  refine x_callU O (enc2 := eI) (ci := 9) (av := []) (rest := []) 0 (fun v0 t0 h0 => mt_J4_length (xL X) (xG X) hfl hg p1 _ t0 v0 h0) q536 q538 q532 q531 q533 (O.hts _ q534) q535 q139 hv_J3_length ⟨Nat.le_of_ble_eq_true rfl, Nat.le_of_ble_eq_true rfl⟩ rfl rfl (Nat.le_of_ble_eq_true rfl) dJ5_init_2_10 (fun v5 s6 => ?_)
  refine s_istore O (L' := [(4, .int v5), (3, va_rf r3), (0, .ref o), (1, .ref p1), (2, va_rf x2)]) hm (by decide) (by generalize r3 = zq0; cases zq0 <;> rfl) dJ5_init_2_13 ?_
  refine s_aload_n O 3 rfl rfl dJ5_init_2_15 ?_
  refine x_callU O (enc2 := eI) (ci := 9) (av := []) (rest := []) 0 (fun v0 t0 h0 => mt_J3_isLatin1 (xL X) (xG X) hfl hg p1 _ t0 v0 h0) q464 q464 q461 q539 q462 (O.hts _ q463) q461 q138 hv_J3_isLatin1 ⟨Nat.le_of_ble_eq_true rfl, Nat.le_of_ble_eq_true rfl⟩ rfl rfl (Nat.le_of_ble_eq_true rfl) dJ5_init_2_16 (fun v7 s8 => ?_)
  refine s_if_eq O (tgt := 41) dJ5_init_2_19 (by decide) ?_ ?_
  · refine x_getstI O (x := 1) (zz_cs hzz) q549 (fun _ h => h) dJ5_init_2_41 ?_
    refine s_if_eq O (tgt := 79) dJ5_init_2_44 (by decide) ?_ ?_
    · refine Sim.sub (L' := [(0, .ref o), (3, va_rf r3), (4, .int v5)]) [2, 1, 0] rfl ?_
      exact hj79 r3 v5 _
    · refine s_aload_n O 3 rfl rfl dJ5_init_2_47 ?_
      refine x_get O (ci := 9) (T := TJ4) (N := 4) in_J4 rfl 2 (by decide) q407 (fun _ h => h) dJ5_init_2_48 (fun v0 => ?_)
      refine s_vI (fun u16 => ?_)
      refine s_if_eq O (tgt := 79) dJ5_init_2_51 (by decide) ?_ ?_
      · refine Sim.sub (L' := [(0, .ref o), (3, va_rf r3), (4, .int v5)]) [2, 1, 0] rfl ?_
        exact hj79 r3 v5 _
      · exact Sim.none
  · refine s_aload_n O 2 rfl rfl dJ5_init_2_22 ?_
    refine s_iconst O (x := 0) (by decide) dJ5_init_2_23 ?_
    refine x_putF O (ci := 10) (T := TJ5) (N := 2) (ty := .byte) in_J5 tyJ5 tyJ5_ok nmJ5 rfl 1 (by decide) q564 (fun _ h => h) rfl hinit rfl (by decide +kernel) (by decide) (by decide) dJ5_init_2_24 (fun s17 => ?_)
    refine s_aload_n O 2 rfl rfl dJ5_init_2_27 ?_
    refine s_aload_nQ O 1 rfl rfl dJ5_init_2_28 ?_
    refine s_iconst O (x := 0) (by decide) dJ5_init_2_29 ?_
    refine s_iload O 0 rfl dJ5_init_2_30 ?_
    refine s_dr (fun p18 hp19 => ?_)
    subst hp19
    refine x_callS O (enc2 := eR) (av := [.ref p18, .int 0, .int v5]) (rest := [.ref o]) 3 (fun v0 t0 h0 => mt_J9_copyOfRange (xL X) (xG X) hfl hg p18 0 v5 _ t0 v0 h0) (lw_S q540 q541 q144 q542) hd_J9_copyOfRange ⟨Nat.le_of_ble_eq_true rfl, Nat.le_of_ble_eq_true rfl⟩ rfl (Nat.le_of_ble_eq_true rfl) dJ5_init_2_32 (fun r20 s21 => ?_)
    refine x_putF O (ci := 10) (T := TJ5) (N := 2) (ty := (.array .byte)) in_J5 tyJ5 tyJ5_ok nmJ5 rfl 0 (by decide) q563 (fun _ h => h) rfl hinit rfl (by decide +kernel) (nmA _ _) (ftA _ _) dJ5_init_2_35 (fun s22 => ?_)
    refine s_goto O (tgt := 97) dJ5_init_2_38 (by decide) ?_
    exact s_return O hr rfl dJ5_init_2_97
theorem mt_J5_init_2 (l : Launch) (G : XG) (hfl : l.stackTraces = false) (hg : G.2.2.2.2 = zAll G.1.1 G.1.2.2.2 G.2.2.2.1) (o : Nat) (x1 : Option Nat) (x2 : Option Nat) (s t : XS) (v : Unit) (h : j5_init_2 o x1 x2 s = some (v, t)) : xMet l yJ5_init_2 (ws_ yJ5_init_2 cJ5_init_2 5 none) 3 106 G (xI s) [.ref o, va_rf x1, va_rf x2] (eU v) (xI t) :=
  xMet_ofN rfl (E := xI) (enc := eU) (by decide +kernel) (by generalize x1 = zq0; generalize x2 = zq1; cases zq0 <;> cases zq1 <;> exact Nat.le_of_ble_eq_true rfl) (fun X hl hG O hr hm hinit => by subst hl; subst hG; rw [show lv_args 0 [.ref o, va_rf x1, va_rf x2] = [(0, .ref o), (1, va_rf x1), (2, va_rf x2)] from (by generalize x1 = zq0; generalize x2 = zq1; cases zq0 <;> cases zq1 <;> rfl)]; exact wk_J5_init_2 O hfl hg hr hm hinit o x1 x2 s) h
theorem hd_J5_init : yJ5_init.cls ≠ "java/lang/invoke/MethodHandle" ∧ yJ5_init.cls ≠ "java/lang/invoke/VarHandle" ∧ (parseMethodDescriptor yJ5_init.desc).map (fun d => d.parameters.length) = some 1 := by decide +kernel
theorem hv_J5_init : yJ5_init.cls = RJ5 ∧ yJ5_init.cls ≠ "java/lang/invoke/MethodHandle" ∧ yJ5_init.cls ≠ "java/lang/invoke/VarHandle" ∧ (parseMethodDescriptor yJ5_init.desc).map (fun d => d.parameters.length) = some 1 := ⟨rfl, hd_J5_init⟩
set_option maxHeartbeats 4000000 in
set_option maxRecDepth 100000 in
theorem wk_J5_init {X : XC} (O : XOk X cJ5_init RJ5 4 130) (hfl : (xL X).stackTraces = false) (hg : (xG X).2.2.2.2 = zAll (xG X).1.1 (xG X).1.2.2.2 (xG X).2.2.2.1) (hr : (xMeth X).sig.returnType = none) (hm : (xC X).maxLocals = 2) (o : Nat) (x1 : Nat) (s : XS) : Sim X xI (retC X eU xI) 0 [(0, .ref o), (1, .ref x1)] [] s (j5_init o x1 s) := by
  have hzz := O.hst
  rw [hg] at hzz
  unfold j5_init
  refine s_aload_n O 0 rfl rfl dJ5_init_0 ?_
  refine s_aload_n O 1 rfl rfl dJ5_init_1 ?_
  refine s_null O dJ5_init_2 ?_
  refine x_callI O (enc2 := eU) (av := [va_rf (some x1), va_rf none]) (rest := []) 2 (fun v0 t0 h0 => mt_J5_init_2 (xL X) (xG X) hfl hg o (some x1) none _ t0 v0 h0) q524 q140 q522 q523 rfl hd_J5_init_2 ⟨Nat.le_of_ble_eq_true rfl, Nat.le_of_ble_eq_true rfl⟩ rfl (Nat.le_of_ble_eq_true rfl) dJ5_init_3 (fun v1 s2 => ?_)
  exact s_return O hr rfl dJ5_init_6
theorem mt_J5_init (l : Launch) (G : XG) (hfl : l.stackTraces = false) (hg : G.2.2.2.2 = zAll G.1.1 G.1.2.2.2 G.2.2.2.1) (o : Nat) (x1 : Nat) (s t : XS) (v : Unit) (h : j5_init o x1 s = some (v, t)) : xMet l yJ5_init (ws_ yJ5_init cJ5_init 2 none) 4 130 G (xI s) [.ref o, .ref x1] (eU v) (xI t) :=
  xMet_of (E := xI) (enc := eU) (by decide +kernel) (Nat.le_of_ble_eq_true rfl) (fun X hl hG O hr hm => by subst hl; subst hG; exact wk_J5_init O hfl hg hr hm o x1 s) h
theorem hd_J4_toString : yJ4_toString.cls ≠ "java/lang/invoke/MethodHandle" ∧ yJ4_toString.cls ≠ "java/lang/invoke/VarHandle" ∧ (parseMethodDescriptor yJ4_toString.desc).map (fun d => d.parameters.length) = some 0 := by decide +kernel
theorem hv_J4_toString : yJ4_toString.cls = RJ4 ∧ yJ4_toString.cls ≠ "java/lang/invoke/MethodHandle" ∧ yJ4_toString.cls ≠ "java/lang/invoke/VarHandle" ∧ (parseMethodDescriptor yJ4_toString.desc).map (fun d => d.parameters.length) = some 0 := ⟨rfl, hd_J4_toString⟩
theorem hu_J4_toString : yJ4_toString.name ≠ "<init>" ∧ (parseMethodDescriptor yJ4_toString.desc).map (fun d => d.parameters.length) = some 0 := ⟨by decide +kernel, hd_J4_toString.2.2⟩
set_option maxHeartbeats 4000000 in
set_option maxRecDepth 100000 in
theorem wk_J4_toString {X : XC} (O : XOk X cJ4_toString RJ4 5 151) (hfl : (xL X).stackTraces = false) (hg : (xG X).2.2.2.2 = zAll (xG X).1.1 (xG X).1.2.2.2 (xG X).2.2.2.1) (hr : (xMeth X).sig.returnType = (some (.object "java/lang/String"))) (hm : (xC X).maxLocals = 1) (o : Nat) (s : XS) : Sim X xI (retC X eR xI) 0 [(0, .ref o)] [] s (j4_toString o s) := by
  have hzz := O.hst
  rw [hg] at hzz
  unfold j4_toString
  refine x_new O (ci := 10) (T := TJ5) (N := 2) (fs := dfJ5) in_J5 tyJ5 tyJ5_ok rfl 4 q517 q518 q140 rfl dfJ5_ok dJ4_toString_0 (fun p1 s2 => ?_)
  refine s_dup O rfl dJ4_toString_3 ?_
  refine s_aload_n O 0 rfl rfl dJ4_toString_4 ?_
  refine x_callI O (enc2 := eU) (av := [.ref o]) (rest := [.ref p1]) 1 (fun v0 t0 h0 => mt_J5_init (xL X) (xG X) hfl hg p1 o _ t0 v0 h0) q521 q140 q519 q520 rfl hd_J5_init ⟨Nat.le_of_ble_eq_true rfl, Nat.le_of_ble_eq_true rfl⟩ rfl (Nat.le_of_ble_eq_true rfl) dJ4_toString_5 (fun v3 s4 => ?_)
  exact s_areturnQ O (r := (some p1)) hr (Or.inl ⟨_, rfl⟩) rfl dJ4_toString_8
theorem mt_J4_toString (l : Launch) (G : XG) (hfl : l.stackTraces = false) (hg : G.2.2.2.2 = zAll G.1.1 G.1.2.2.2 G.2.2.2.1) (o : Nat) (s t : XS) (v : Option Nat) (h : j4_toString o s = some (v, t)) : xMet l yJ4_toString (ws_ yJ4_toString cJ4_toString 1 (some (.object "java/lang/String"))) 5 151 G (xI s) [.ref o] (eR v) (xI t) :=
  xMet_of (E := xI) (enc := eR) (by decide +kernel) (Nat.le_of_ble_eq_true rfl) (fun X hl hG O hr hm => by subst hl; subst hG; exact wk_J4_toString O hfl hg hr hm o s) h
theorem hd_X3_wordHere : yX3_wordHere.cls ≠ "java/lang/invoke/MethodHandle" ∧ yX3_wordHere.cls ≠ "java/lang/invoke/VarHandle" ∧ (parseMethodDescriptor yX3_wordHere.desc).map (fun d => d.parameters.length) = some 0 := by decide +kernel
theorem hv_X3_wordHere : yX3_wordHere.cls = RX3 ∧ yX3_wordHere.cls ≠ "java/lang/invoke/MethodHandle" ∧ yX3_wordHere.cls ≠ "java/lang/invoke/VarHandle" ∧ (parseMethodDescriptor yX3_wordHere.desc).map (fun d => d.parameters.length) = some 0 := ⟨rfl, hd_X3_wordHere⟩
theorem hu_X3_wordHere : yX3_wordHere.name ≠ "<init>" ∧ (parseMethodDescriptor yX3_wordHere.desc).map (fun d => d.parameters.length) = some 0 := ⟨by decide +kernel, hd_X3_wordHere.2.2⟩
set_option maxHeartbeats 4000000 in
set_option maxRecDepth 100000 in
theorem wk_X3_wordHere {X : XC} (O : XOk X cX3_wordHere RX3 6 171) (hfl : (xL X).stackTraces = false) (hg : (xG X).2.2.2.2 = zAll (xG X).1.1 (xG X).1.2.2.2 (xG X).2.2.2.1) (hr : (xMeth X).sig.returnType = (some (.object "java/lang/String"))) (hm : (xC X).maxLocals = 3) (o : Nat) (s : XS) : Sim X xI (retC X eR xI) 0 [(0, .ref o)] [] s (x3_wordHere o s) := by
  have hzz := O.hst
  rw [hg] at hzz
  unfold x3_wordHere
  refine s_aload_n O 0 rfl rfl dX3_wordHere_0 ?_
  refine x_callV O (enc2 := eI) (ci := 3) (av := []) (rest := []) 0 (fun v0 t0 h0 => mt_X3_next (xL X) (xG X) hfl hg o _ t0 v0 h0) (lw_V q375 q377 qs6 q137 q378) hv_X3_next ⟨Nat.le_of_ble_eq_true rfl, Nat.le_of_ble_eq_true rfl⟩ rfl rfl (Nat.le_of_ble_eq_true rfl) dX3_wordHere_1 (fun v1 s2 => ?_)
  refine s_istore_n O (L' := [(1, .int v1), (0, .ref o)]) hm (by decide) rfl rfl dX3_wordHere_4 ?_
  refine s_aload_n O 1 rfl rfl dX3_wordHere_5 ?_
  refine s_iload_n O 0 rfl rfl dX3_wordHere_6 ?_
  refine x_callV O (enc2 := eI) (ci := 3) (av := [.int v1]) (rest := []) 1 (fun v0 t0 h0 => mt_X3_isLetter (xL X) (xG X) hfl hg o v1 _ t0 v0 h0) (lw_V q379 q381 qs7 q137 q382) hv_X3_isLetter ⟨Nat.le_of_ble_eq_true rfl, Nat.le_of_ble_eq_true rfl⟩ rfl rfl (Nat.le_of_ble_eq_true rfl) dX3_wordHere_7 (fun v3 s4 => ?_)
  refine s_if_eq O (tgt := 21) dX3_wordHere_10 (by decide) ?_ ?_
  · refine x_ldcS O (j := 8) (zt_3 hzz) dX3_wordHere_21 ?_
    refine s_nmQ (fun r5 => ?_)
    exact s_areturnQ O (r := r5) hr (Or.inl ⟨_, rfl⟩) rfl dX3_wordHere_23
  · refine s_iload_n O 0 rfl rfl dX3_wordHere_13 ?_
    refine s_aload_n O 1 rfl rfl dX3_wordHere_14 ?_
    refine x_get O (ci := 3) (T := TX3) (N := 8) in_X3 rfl 2 (by decide) q339 (fun _ h => h) dX3_wordHere_15 (fun v0 => ?_)
    refine s_vI (fun u6 => ?_)
    refine s_icmp_ne O (tgt := 24) dX3_wordHere_18 (by decide) ?_ ?_
    · refine x_new O (ci := 9) (T := TJ4) (N := 4) (fs := dfJ4) in_J4 tyJ4 tyJ4_ok rfl 4 q387 q388 q139 rfl dfJ4_ok dX3_wordHere_24 (fun p7 s8 => ?_)
      refine s_dup O rfl dX3_wordHere_27 ?_
      refine x_callI O (enc2 := eU) (av := []) (rest := [.ref p7]) 0 (fun v0 t0 h0 => mt_J4_init (xL X) (xG X) hfl hg p7 _ t0 v0 h0) q391 q139 q389 q390 rfl hd_J4_init ⟨Nat.le_of_ble_eq_true rfl, Nat.le_of_ble_eq_true rfl⟩ rfl (Nat.le_of_ble_eq_true rfl) dX3_wordHere_28 (fun v9 s10 => ?_)
      refine s_astore_n O (L' := [(2, .ref p7), (1, .int v1), (0, .ref o)]) hm (by decide) rfl rfl dX3_wordHere_31 ?_
      refine Sim.sub (L' := [(0, .ref o), (1, .int v1), (2, .ref p7)]) [2, 1, 0] rfl ?_
      refine s_while (A := Int32) (B := Unit) (La := fun a32 => [(0, .ref o), (1, .int a32), (2, .ref p7)]) (We := fun b32 s23 => xWX X 61 [(2, .ref p7)] [] ((xI) s23)) rfl rfl ?_ ?_
      · intro Cl hn he a32 s11
        unfold x3_wordHere_s32
        refine s_aload_n O 0 rfl rfl dX3_wordHere_32 ?_
        refine s_iload_n O 1 rfl rfl dX3_wordHere_33 ?_
        refine x_callV O (enc2 := eI) (ci := 3) (av := [.int a32]) (rest := []) 1 (fun v0 t0 h0 => mt_X3_isLetter (xL X) (xG X) hfl hg o a32 _ t0 v0 h0) (lw_V q379 q381 qs7 q137 q382) hv_X3_isLetter ⟨Nat.le_of_ble_eq_true rfl, Nat.le_of_ble_eq_true rfl⟩ rfl rfl (Nat.le_of_ble_eq_true rfl) dX3_wordHere_34 (fun v12 s13 => ?_)
        refine s_if_eq O (tgt := 61) dX3_wordHere_37 (by decide) ?_ ?_
        · refine Sim.sub (L' := [(2, .ref p7)]) [2] rfl ?_
          exact Sim.ret (he _ _)
        · refine s_aload_n O 2 rfl rfl dX3_wordHere_40 ?_
          refine s_aload_n O 0 rfl rfl dX3_wordHere_41 ?_
          refine x_get O (ci := 3) (T := TX3) (N := 8) in_X3 rfl 7 (by decide) q344 (fun _ h => h) dX3_wordHere_42 (fun v0 => ?_)
          refine s_vR (fun r14 => ?_)
          refine s_dr (fun p15 hp16 => ?_)
          subst hp16
          refine x_getN O (ci := 0) (T := TX0) (N := 20) in_X0 rfl 0 (by decide) (zf_q231 hzz) (fun _ h => h) dX3_wordHere_45 (fun v0 => ?_)
          refine s_vR (fun r17 => ?_)
          refine s_iload_n O 1 rfl rfl dX3_wordHere_48 ?_
          refine s_dr (fun p18 hp19 => ?_)
          subst hp19
          refine x_bald O dX3_wordHere_49 (fun u20 => ?_)
          refine s_i2c O dX3_wordHere_50 ?_
          refine x_callV O (enc2 := eR) (ci := 9) (av := [.int ((u20.toUInt32 % 65536).toInt32)]) (rest := []) 1 (fun v0 t0 h0 => mt_J4_append (xL X) (xG X) hfl hg p7 ((u20.toUInt32 % 65536).toInt32) _ t0 v0 h0) (lw_V q418 q419 q420 q139 q421) hv_J4_append ⟨Nat.le_of_ble_eq_true rfl, Nat.le_of_ble_eq_true rfl⟩ rfl rfl (Nat.le_of_ble_eq_true rfl) dX3_wordHere_51 (fun r21 s22 => ?_)
          refine s_pop O (va_cat _) dX3_wordHere_54 ?_
          refine s_iinc O (y := (a32 + 1)) (L' := [(1, .int (a32 + 1)), (0, .ref o), (2, .ref p7)]) 1 rfl hm (by decide) rfl rfl dX3_wordHere_55 ?_
          refine s_goto O (tgt := 32) dX3_wordHere_58 (by decide) ?_
          refine Sim.sub (L' := [(0, .ref o), (1, .int (a32 + 1)), (2, .ref p7)]) [1, 0, 2] rfl ?_
          exact Sim.ret (hn _ _)
      · intro b32 s23
        show Sim X (xI) (retC X eR xI) 61 [(2, .ref p7)] [] s23 _
        refine s_aload_n O 0 rfl rfl dX3_wordHere_61 ?_
        refine x_callV O (enc2 := eR) (ci := 9) (av := []) (rest := []) 0 (fun v0 t0 h0 => mt_J4_toString (xL X) (xG X) hfl hg p7 _ t0 v0 h0) (lw_V q513 q514 q515 q139 q516) hv_J4_toString ⟨Nat.le_of_ble_eq_true rfl, Nat.le_of_ble_eq_true rfl⟩ rfl rfl (Nat.le_of_ble_eq_true rfl) dX3_wordHere_62 (fun r24 s25 => ?_)
        exact s_areturnQ O (r := r24) hr (Or.inl ⟨_, rfl⟩) rfl dX3_wordHere_65
    · refine x_ldcS O (j := 8) (zt_3 hzz) dX3_wordHere_21 ?_
      refine s_nmQ (fun r26 => ?_)
      exact s_areturnQ O (r := r26) hr (Or.inl ⟨_, rfl⟩) rfl dX3_wordHere_23
theorem mt_X3_wordHere (l : Launch) (G : XG) (hfl : l.stackTraces = false) (hg : G.2.2.2.2 = zAll G.1.1 G.1.2.2.2 G.2.2.2.1) (o : Nat) (s t : XS) (v : Option Nat) (h : x3_wordHere o s = some (v, t)) : xMet l yX3_wordHere (ws_ yX3_wordHere cX3_wordHere 3 (some (.object "java/lang/String"))) 6 171 G (xI s) [.ref o] (eR v) (xI t) :=
  xMet_of (E := xI) (enc := eR) (by decide +kernel) (Nat.le_of_ble_eq_true rfl) (fun X hl hG O hr hm => by subst hl; subst hG; exact wk_X3_wordHere O hfl hg hr hm o s) h
theorem hd_J10_equals : yJ10_equals.cls ≠ "java/lang/invoke/MethodHandle" ∧ yJ10_equals.cls ≠ "java/lang/invoke/VarHandle" ∧ (parseMethodDescriptor yJ10_equals.desc).map (fun d => d.parameters.length) = some 2 := by decide +kernel
theorem hv_J10_equals : yJ10_equals.cls = RJ10 ∧ yJ10_equals.cls ≠ "java/lang/invoke/MethodHandle" ∧ yJ10_equals.cls ≠ "java/lang/invoke/VarHandle" ∧ (parseMethodDescriptor yJ10_equals.desc).map (fun d => d.parameters.length) = some 2 := ⟨rfl, hd_J10_equals⟩
theorem hu_J10_equals : yJ10_equals.name ≠ "<init>" ∧ (parseMethodDescriptor yJ10_equals.desc).map (fun d => d.parameters.length) = some 2 := ⟨by decide +kernel, hd_J10_equals.2.2⟩
set_option maxHeartbeats 4000000 in
set_option maxRecDepth 100000 in
theorem wk_J10_equals {X : XC} (O : XOk X cJ10_equals RJ10 0 0) (hfl : (xL X).stackTraces = false) (hg : (xG X).2.2.2.2 = zAll (xG X).1.1 (xG X).1.2.2.2 (xG X).2.2.2.1) (hr : (xMeth X).sig.returnType = (some .boolean)) (hm : (xC X).maxLocals = 3) (x0 : Nat) (x1 : Nat) (s : XS) : Sim X xI (retC X eI xI) 0 [(0, .ref x0), (1, .ref x1)] [] s (j10_equals x0 x1 s) := by
  have hzz := O.hst
  rw [hg] at hzz
  unfold j10_equals
  refine s_aload_n O 0 rfl rfl dJ10_equals_0 ?_
  refine x_alen O dJ10_equals_1 (fun u1 => ?_)
  refine s_aload_n O 1 rfl rfl dJ10_equals_2 ?_
  refine x_alen O dJ10_equals_3 (fun u2 => ?_)
  refine s_icmp_ne O (tgt := 34) dJ10_equals_4 (by decide) ?_ ?_
  · refine s_iconst O (x := 0) (by decide) dJ10_equals_34 ?_
    exact s_zreturnK O hr rfl rfl dJ10_equals_35
  · refine s_iconst O (x := 0) (by decide) dJ10_equals_7 ?_
    refine s_istore_n O (L' := [(2, .int 0), (0, .ref x0), (1, .ref x1)]) hm (by decide) rfl rfl dJ10_equals_8 ?_
    refine Sim.sub (L' := [(0, .ref x0), (1, .ref x1), (2, .int 0)]) [1, 2, 0] rfl ?_
    refine s_while (A := Int32) (B := (Unit) ⊕ (Unit)) (La := fun a9 => [(0, .ref x0), (1, .ref x1), (2, .int a9)]) (We := fun bb0 s7 => match bb0 with | .inl b9 => xWX X 24 [] [] ((xI) s7) | .inr b9 => xWX X 32 [] [] ((xI) s7)) rfl rfl ?_ ?_
    · intro Cl hn he a9 s3
      unfold j10_equals_s9
      refine s_iload_n O 2 rfl rfl dJ10_equals_9 ?_
      refine s_aload_n O 0 rfl rfl dJ10_equals_10 ?_
      refine x_alen O dJ10_equals_11 (fun u4 => ?_)
      refine s_icmp_ge O (tgt := 32) dJ10_equals_12 (by decide) ?_ ?_
      · refine Sim.sub (L' := []) [] rfl ?_
        exact Sim.ret (he _ _)
      · refine s_aload_n O 0 rfl rfl dJ10_equals_15 ?_
        refine s_iload_n O 2 rfl rfl dJ10_equals_16 ?_
        refine x_bald O dJ10_equals_17 (fun u5 => ?_)
        refine s_aload_n O 1 rfl rfl dJ10_equals_18 ?_
        refine s_iload_n O 2 rfl rfl dJ10_equals_19 ?_
        refine x_bald O dJ10_equals_20 (fun u6 => ?_)
        refine s_icmp_eq O (tgt := 26) dJ10_equals_21 (by decide) ?_ ?_
        · refine s_iinc O (y := (a9 + 1)) (L' := [(2, .int (a9 + 1)), (0, .ref x0), (1, .ref x1)]) 2 rfl hm (by decide) rfl rfl dJ10_equals_26 ?_
          refine s_goto O (tgt := 9) dJ10_equals_29 (by decide) ?_
          refine Sim.sub (L' := [(0, .ref x0), (1, .ref x1), (2, .int (a9 + 1))]) [1, 2, 0] rfl ?_
          exact Sim.ret (hn _ _)
        · refine Sim.sub (L' := []) [] rfl ?_
          exact Sim.ret (he _ _)
    · intro bb0 s7
      rcases bb0 with b9 | b9
      · show Sim X (xI) (retC X eI xI) 24 [] [] s7 _
        dsimp only
        refine s_iconst O (x := 0) (by decide) dJ10_equals_24 ?_
        exact s_zreturnK O hr rfl rfl dJ10_equals_25
      · show Sim X (xI) (retC X eI xI) 32 [] [] s7 _
        dsimp only
        refine s_iconst O (x := 1) (by decide) dJ10_equals_32 ?_
        exact s_zreturnK O hr rfl rfl dJ10_equals_33
theorem mt_J10_equals (l : Launch) (G : XG) (hfl : l.stackTraces = false) (hg : G.2.2.2.2 = zAll G.1.1 G.1.2.2.2 G.2.2.2.1) (x0 : Nat) (x1 : Nat) (s t : XS) (v : Int32) (h : j10_equals x0 x1 s = some (v, t)) : xMet l yJ10_equals (ws_ yJ10_equals cJ10_equals 3 (some .boolean)) 0 0 G (xI s) [.ref x0, .ref x1] (eI v) (xI t) :=
  xMet_of (E := xI) (enc := eI) (by decide +kernel) (Nat.le_of_ble_eq_true rfl) (fun X hl hG O hr hm => by subst hl; subst hG; exact wk_J10_equals O hfl hg hr hm x0 x1 s) h
theorem hd_J5_equals : yJ5_equals.cls ≠ "java/lang/invoke/MethodHandle" ∧ yJ5_equals.cls ≠ "java/lang/invoke/VarHandle" ∧ (parseMethodDescriptor yJ5_equals.desc).map (fun d => d.parameters.length) = some 1 := by decide +kernel
theorem hv_J5_equals : yJ5_equals.cls = RJ5 ∧ yJ5_equals.cls ≠ "java/lang/invoke/MethodHandle" ∧ yJ5_equals.cls ≠ "java/lang/invoke/VarHandle" ∧ (parseMethodDescriptor yJ5_equals.desc).map (fun d => d.parameters.length) = some 1 := ⟨rfl, hd_J5_equals⟩
theorem hu_J5_equals : yJ5_equals.name ≠ "<init>" ∧ (parseMethodDescriptor yJ5_equals.desc).map (fun d => d.parameters.length) = some 1 := ⟨by decide +kernel, hd_J5_equals.2.2⟩
set_option maxHeartbeats 4000000 in
set_option maxRecDepth 100000 in
theorem wk_J5_equals {X : XC} (O : XOk X cJ5_equals RJ5 1 22) (hfl : (xL X).stackTraces = false) (hg : (xG X).2.2.2.2 = zAll (xG X).1.1 (xG X).1.2.2.2 (xG X).2.2.2.1) (hr : (xMeth X).sig.returnType = (some .boolean)) (hm : (xC X).maxLocals = 3) (o : Nat) (x1 : Nat) (s : XS) : Sim X xI (retC X eI xI) 0 [(0, .ref o), (1, .ref x1)] [] s (j5_equals o x1 s) := by
  have hzz := O.hst
  rw [hg] at hzz
  unfold j5_equals
  have hj36 : ∀ (x2_36 : Option Nat) (s1 : XS), Sim X (xI) (retC X eI xI) 36 [(0, .ref o), (2, va_rf x2_36)] [] s1 (j5_equals_j36 o x2_36 s1) := by
    intro x2_36 s1
    unfold j5_equals_j36
    refine s_aload_n O 0 rfl rfl dJ5_equals_36 ?_
    refine x_get O (ci := 10) (T := TJ5) (N := 2) in_J5 rfl 0 (by decide) q563 (fun _ h => h) dJ5_equals_37 (fun v0 => ?_)
    refine s_vR (fun r2 => ?_)
    refine s_aload_nQ O 1 rfl rfl dJ5_equals_40 ?_
    refine s_dr (fun p3 hp4 => ?_)
    subst hp4
    refine x_get O (ci := 10) (T := TJ5) (N := 2) in_J5 rfl 0 (by decide) q563 (fun _ h => h) dJ5_equals_41 (fun v0 => ?_)
    refine s_vR (fun r5 => ?_)
    refine s_dr (fun p6 hp7 => ?_)
    subst hp7
    refine s_dr (fun p8 hp9 => ?_)
    subst hp9
    refine x_callS O (enc2 := eI) (av := [.ref p6, .ref p8]) (rest := []) 2 (fun v0 t0 h0 => mt_J10_equals (xL X) (xG X) hfl hg p6 p8 _ t0 v0 h0) (lw_S q579 q580 q146 q581) hd_J10_equals ⟨Nat.le_of_ble_eq_true rfl, Nat.le_of_ble_eq_true rfl⟩ rfl (Nat.le_of_ble_eq_true rfl) dJ5_equals_44 (fun v10 s11 => ?_)
    refine s_if_eq O (tgt := 54) dJ5_equals_47 (by decide) ?_ ?_
    · refine s_iconst O (x := 0) (by decide) dJ5_equals_54 ?_
      exact s_zreturnK O hr rfl rfl dJ5_equals_55
    · refine s_iconst O (x := 1) (by decide) dJ5_equals_50 ?_
      refine s_goto O (tgt := 55) dJ5_equals_51 (by decide) ?_
      exact s_zreturnK O hr rfl rfl dJ5_equals_55
  refine s_aload_n O 0 rfl rfl dJ5_equals_0 ?_
  refine s_aload_n O 1 rfl rfl dJ5_equals_1 ?_
  refine s_acmp_ne O (rx := (some o)) (ry := (some x1)) (tgt := 7) dJ5_equals_2 (by decide) ?_ ?_
  · refine s_aload_n O 1 rfl rfl dJ5_equals_7 ?_
    refine x_inst O (ci := 10) rfl q578 dJ5_equals_8 ?_
    refine s_if_eq O (tgt := 54) dJ5_equals_11 (by decide) ?_ ?_
    · refine s_iconst O (x := 0) (by decide) dJ5_equals_54 ?_
      exact s_zreturnK O hr rfl rfl dJ5_equals_55
    · refine s_aload_n O 1 rfl rfl dJ5_equals_14 ?_
      refine x_cast O (ci := 10) rfl q578 dJ5_equals_15 ?_
      refine s_astore_n O (L' := [(2, .ref x1), (0, .ref o), (1, .ref x1)]) hm (by decide) rfl rfl dJ5_equals_18 ?_
      refine x_getstI O (x := 1) (zz_cs hzz) q549 (fun _ h => h) dJ5_equals_19 ?_
      refine s_if_eq O (tgt := 36) dJ5_equals_22 (by decide) ?_ ?_
      · refine Sim.sub (L' := [(0, .ref o), (2, va_rf (some x1))]) [1, 0] rfl ?_
        exact hj36 (some x1) _
      · refine s_aload_n O 1 rfl rfl dJ5_equals_25 ?_
        refine x_get O (ci := 10) (T := TJ5) (N := 2) in_J5 rfl 1 (by decide) q564 (fun _ h => h) dJ5_equals_26 (fun v0 => ?_)
        refine s_vI (fun u12 => ?_)
        refine s_aload_n O 0 rfl rfl dJ5_equals_29 ?_
        refine x_get O (ci := 10) (T := TJ5) (N := 2) in_J5 rfl 1 (by decide) q564 (fun _ h => h) dJ5_equals_30 (fun v0 => ?_)
        refine s_vI (fun u13 => ?_)
        refine s_icmp_ne O (tgt := 54) dJ5_equals_33 (by decide) ?_ ?_
        · refine s_iconst O (x := 0) (by decide) dJ5_equals_54 ?_
          exact s_zreturnK O hr rfl rfl dJ5_equals_55
        · refine Sim.sub (L' := [(0, .ref o), (2, va_rf (some x1))]) [1, 0] rfl ?_
          exact hj36 (some x1) _
  · refine s_iconst O (x := 1) (by decide) dJ5_equals_5 ?_
    exact s_zreturnK O hr rfl rfl dJ5_equals_6
theorem mt_J5_equals (l : Launch) (G : XG) (hfl : l.stackTraces = false) (hg : G.2.2.2.2 = zAll G.1.1 G.1.2.2.2 G.2.2.2.1) (o : Nat) (x1 : Nat) (s t : XS) (v : Int32) (h : j5_equals o x1 s = some (v, t)) : xMet l yJ5_equals (ws_ yJ5_equals cJ5_equals 3 (some .boolean)) 1 22 G (xI s) [.ref o, .ref x1] (eI v) (xI t) :=
  xMet_of (E := xI) (enc := eI) (by decide +kernel) (Nat.le_of_ble_eq_true rfl) (fun X hl hG O hr hm => by subst hl; subst hG; exact wk_J5_equals O hfl hg hr hm o x1 s) h
theorem hd_J5_coder : yJ5_coder.cls ≠ "java/lang/invoke/MethodHandle" ∧ yJ5_coder.cls ≠ "java/lang/invoke/VarHandle" ∧ (parseMethodDescriptor yJ5_coder.desc).map (fun d => d.parameters.length) = some 0 := by decide +kernel
theorem hv_J5_coder : yJ5_coder.cls = RJ5 ∧ yJ5_coder.cls ≠ "java/lang/invoke/MethodHandle" ∧ yJ5_coder.cls ≠ "java/lang/invoke/VarHandle" ∧ (parseMethodDescriptor yJ5_coder.desc).map (fun d => d.parameters.length) = some 0 := ⟨rfl, hd_J5_coder⟩
theorem hu_J5_coder : yJ5_coder.name ≠ "<init>" ∧ (parseMethodDescriptor yJ5_coder.desc).map (fun d => d.parameters.length) = some 0 := ⟨by decide +kernel, hd_J5_coder.2.2⟩
set_option maxHeartbeats 4000000 in
set_option maxRecDepth 100000 in
theorem wk_J5_coder {X : XC} (O : XOk X cJ5_coder RJ5 0 0) (hfl : (xL X).stackTraces = false) (hg : (xG X).2.2.2.2 = zAll (xG X).1.1 (xG X).1.2.2.2 (xG X).2.2.2.1) (hr : (xMeth X).sig.returnType = (some .byte)) (hm : (xC X).maxLocals = 1) (o : Nat) (s : XS) : Sim X xI (retC X eI xI) 0 [(0, .ref o)] [] s (j5_coder o s) := by
  have hzz := O.hst
  rw [hg] at hzz
  unfold j5_coder
  refine x_getstI O (x := 1) (zz_cs hzz) q549 (fun _ h => h) dJ5_coder_0 ?_
  refine s_if_eq O (tgt := 13) dJ5_coder_3 (by decide) ?_ ?_
  · refine s_iconst O (x := 1) (by decide) dJ5_coder_13 ?_
    exact s_zreturnK O hr rfl rfl dJ5_coder_14
  · refine s_aload_n O 0 rfl rfl dJ5_coder_6 ?_
    refine x_get O (ci := 10) (T := TJ5) (N := 2) in_J5 rfl 1 (by decide) q564 (fun _ h => h) dJ5_coder_7 (fun v0 => ?_)
    refine s_vI (fun u1 => ?_)
    refine s_goto O (tgt := 14) dJ5_coder_10 (by decide) ?_
    exact s_zreturn O hr rfl dJ5_coder_14
theorem mt_J5_coder (l : Launch) (G : XG) (hfl : l.stackTraces = false) (hg : G.2.2.2.2 = zAll G.1.1 G.1.2.2.2 G.2.2.2.1) (o : Nat) (s t : XS) (v : Int32) (h : j5_coder o s = some (v, t)) : xMet l yJ5_coder (ws_ yJ5_coder cJ5_coder 1 (some .byte)) 0 0 G (xI s) [.ref o] (eI v) (xI t) :=
  xMet_of (E := xI) (enc := eI) (by decide +kernel) (Nat.le_of_ble_eq_true rfl) (fun X hl hG O hr hm => by subst hl; subst hG; exact wk_J5_coder O hfl hg hr hm o s) h
theorem hd_J5_length : yJ5_length.cls ≠ "java/lang/invoke/MethodHandle" ∧ yJ5_length.cls ≠ "java/lang/invoke/VarHandle" ∧ (parseMethodDescriptor yJ5_length.desc).map (fun d => d.parameters.length) = some 0 := by decide +kernel
theorem hv_J5_length : yJ5_length.cls = RJ5 ∧ yJ5_length.cls ≠ "java/lang/invoke/MethodHandle" ∧ yJ5_length.cls ≠ "java/lang/invoke/VarHandle" ∧ (parseMethodDescriptor yJ5_length.desc).map (fun d => d.parameters.length) = some 0 := ⟨rfl, hd_J5_length⟩
theorem hu_J5_length : yJ5_length.name ≠ "<init>" ∧ (parseMethodDescriptor yJ5_length.desc).map (fun d => d.parameters.length) = some 0 := ⟨by decide +kernel, hd_J5_length.2.2⟩
set_option maxHeartbeats 4000000 in
set_option maxRecDepth 100000 in
theorem wk_J5_length {X : XC} (O : XOk X cJ5_length RJ5 1 20) (hfl : (xL X).stackTraces = false) (hg : (xG X).2.2.2.2 = zAll (xG X).1.1 (xG X).1.2.2.2 (xG X).2.2.2.1) (hr : (xMeth X).sig.returnType = (some .int)) (hm : (xC X).maxLocals = 1) (o : Nat) (s : XS) : Sim X xI (retC X eI xI) 0 [(0, .ref o)] [] s (j5_length o s) := by
  have hzz := O.hst
  rw [hg] at hzz
  unfold j5_length
  refine s_aload_n O 0 rfl rfl dJ5_length_0 ?_
  refine x_get O (ci := 10) (T := TJ5) (N := 2) in_J5 rfl 0 (by decide) q563 (fun _ h => h) dJ5_length_1 (fun v0 => ?_)
  refine s_vR (fun r1 => ?_)
  refine s_dr (fun p2 hp3 => ?_)
  subst hp3
  refine x_alen O dJ5_length_4 (fun u4 => ?_)
  refine s_aload_n O 0 rfl rfl dJ5_length_5 ?_
  refine x_callV O (enc2 := eI) (ci := 10) (av := []) (rest := [.int u4]) 0 (fun v0 t0 h0 => mt_J5_coder (xL X) (xG X) hfl hg o _ t0 v0 h0) (lw_V q586 q587 q588 q140 q589) hv_J5_coder ⟨Nat.le_of_ble_eq_true rfl, Nat.le_of_ble_eq_true rfl⟩ rfl rfl (Nat.le_of_ble_eq_true rfl) dJ5_length_6 (fun v5 s6 => ?_)
  refine s_ishr O dJ5_length_9 ?_
  exact s_ireturn O hr rfl dJ5_length_10
theorem mt_J5_length (l : Launch) (G : XG) (hfl : l.stackTraces = false) (hg : G.2.2.2.2 = zAll G.1.1 G.1.2.2.2 G.2.2.2.1) (o : Nat) (s t : XS) (v : Int32) (h : j5_length o s = some (v, t)) : xMet l yJ5_length (ws_ yJ5_length cJ5_length 1 (some .int)) 1 20 G (xI s) [.ref o] (eI v) (xI t) :=
  xMet_of (E := xI) (enc := eI) (by decide +kernel) (Nat.le_of_ble_eq_true rfl) (fun X hl hG O hr hm => by subst hl; subst hG; exact wk_J5_length O hfl hg hr hm o s) h
theorem hd_X3_takes : yX3_takes.cls ≠ "java/lang/invoke/MethodHandle" ∧ yX3_takes.cls ≠ "java/lang/invoke/VarHandle" ∧ (parseMethodDescriptor yX3_takes.desc).map (fun d => d.parameters.length) = some 1 := by decide +kernel
theorem hv_X3_takes : yX3_takes.cls = RX3 ∧ yX3_takes.cls ≠ "java/lang/invoke/MethodHandle" ∧ yX3_takes.cls ≠ "java/lang/invoke/VarHandle" ∧ (parseMethodDescriptor yX3_takes.desc).map (fun d => d.parameters.length) = some 1 := ⟨rfl, hd_X3_takes⟩
theorem hu_X3_takes : yX3_takes.name ≠ "<init>" ∧ (parseMethodDescriptor yX3_takes.desc).map (fun d => d.parameters.length) = some 1 := ⟨by decide +kernel, hd_X3_takes.2.2⟩
set_option maxHeartbeats 4000000 in
set_option maxRecDepth 100000 in
theorem wk_X3_takes {X : XC} (O : XOk X cX3_takes RX3 7 193) (hfl : (xL X).stackTraces = false) (hg : (xG X).2.2.2.2 = zAll (xG X).1.1 (xG X).1.2.2.2 (xG X).2.2.2.1) (hr : (xMeth X).sig.returnType = (some .boolean)) (hm : (xC X).maxLocals = 2) (o : Nat) (x1 : Nat) (s : XS) : Sim X xI (retC X eI xI) 0 [(0, .ref o), (1, .ref x1)] [] s (x3_takes o x1 s) := by
  have hzz := O.hst
  rw [hg] at hzz
  unfold x3_takes
  refine s_aload_n O 0 rfl rfl dX3_takes_0 ?_
  refine x_callV O (enc2 := eR) (ci := 3) (av := []) (rest := []) 0 (fun v0 t0 h0 => mt_X3_wordHere (xL X) (xG X) hfl hg o _ t0 v0 h0) (lw_V q371 q373 qs5 q137 q374) hv_X3_wordHere ⟨Nat.le_of_ble_eq_true rfl, Nat.le_of_ble_eq_true rfl⟩ rfl rfl (Nat.le_of_ble_eq_true rfl) dX3_takes_1 (fun r1 s2 => ?_)
  refine s_aload_n O 1 rfl rfl dX3_takes_4 ?_
  refine s_dr (fun p3 hp4 => ?_)
  subst hp4
  refine x_callV O (enc2 := eI) (ci := 10) (av := [.ref x1]) (rest := []) 1 (fun v0 t0 h0 => mt_J5_equals (xL X) (xG X) hfl hg p3 x1 _ t0 v0 h0) (lw_V q574 q575 q576 q140 q577) hv_J5_equals ⟨Nat.le_of_ble_eq_true rfl, Nat.le_of_ble_eq_true rfl⟩ rfl rfl (Nat.le_of_ble_eq_true rfl) dX3_takes_5 (fun v5 s6 => ?_)
  refine s_if_ne O (tgt := 13) dX3_takes_8 (by decide) ?_ ?_
  · refine s_aload_n O 0 rfl rfl dX3_takes_13 ?_
    refine s_dup O rfl dX3_takes_14 ?_
    refine x_get O (ci := 3) (T := TX3) (N := 8) in_X3 rfl 1 (by decide) q338 (fun _ h => h) dX3_takes_15 (fun v0 => ?_)
    refine s_vI (fun u7 => ?_)
    refine s_aload_n O 1 rfl rfl dX3_takes_18 ?_
    refine x_callV O (enc2 := eI) (ci := 10) (av := []) (rest := [.int u7, .ref o]) 0 (fun v0 t0 h0 => mt_J5_length (xL X) (xG X) hfl hg x1 _ t0 v0 h0) (lw_V q582 q583 q584 q140 q585) hv_J5_length ⟨Nat.le_of_ble_eq_true rfl, Nat.le_of_ble_eq_true rfl⟩ rfl rfl (Nat.le_of_ble_eq_true rfl) dX3_takes_19 (fun v8 s9 => ?_)
    refine s_iadd O dX3_takes_22 ?_
    refine x_put O (ci := 3) (T := TX3) (N := 8) (ty := .int) in_X3 tyX3 tyX3_ok nmX3 rfl 1 (by decide) q338 (fun _ h => h) rfl (by decide +kernel) rfl rfl dX3_takes_23 (fun s10 => ?_)
    refine s_aload_n O 0 rfl rfl dX3_takes_26 ?_
    refine s_aload_n O 0 rfl rfl dX3_takes_27 ?_
    refine x_get O (ci := 3) (T := TX3) (N := 8) in_X3 rfl 1 (by decide) q338 (fun _ h => h) dX3_takes_28 (fun v0 => ?_)
    refine s_vI (fun u11 => ?_)
    refine x_put O (ci := 3) (T := TX3) (N := 8) (ty := .int) in_X3 tyX3 tyX3_ok nmX3 rfl 2 (by decide) q339 (fun _ h => h) rfl (by decide +kernel) rfl rfl dX3_takes_31 (fun s12 => ?_)
    refine s_iconst O (x := 1) (by decide) dX3_takes_34 ?_
    exact s_zreturnK O hr rfl rfl dX3_takes_35
  · refine s_iconst O (x := 0) (by decide) dX3_takes_11 ?_
    exact s_zreturnK O hr rfl rfl dX3_takes_12
theorem mt_X3_takes (l : Launch) (G : XG) (hfl : l.stackTraces = false) (hg : G.2.2.2.2 = zAll G.1.1 G.1.2.2.2 G.2.2.2.1) (o : Nat) (x1 : Nat) (s t : XS) (v : Int32) (h : x3_takes o x1 s = some (v, t)) : xMet l yX3_takes (ws_ yX3_takes cX3_takes 2 (some .boolean)) 7 193 G (xI s) [.ref o, .ref x1] (eI v) (xI t) :=
  xMet_of (E := xI) (enc := eI) (by decide +kernel) (Nat.le_of_ble_eq_true rfl) (fun X hl hG O hr hm => by subst hl; subst hG; exact wk_X3_takes O hfl hg hr hm o x1 s) h
theorem hd_J12_init_2 : yJ12_init_2.cls ≠ "java/lang/invoke/MethodHandle" ∧ yJ12_init_2.cls ≠ "java/lang/invoke/VarHandle" ∧ (parseMethodDescriptor yJ12_init_2.desc).map (fun d => d.parameters.length) = some 4 := by decide +kernel
theorem hv_J12_init_2 : yJ12_init_2.cls = RJ12 ∧ yJ12_init_2.cls ≠ "java/lang/invoke/MethodHandle" ∧ yJ12_init_2.cls ≠ "java/lang/invoke/VarHandle" ∧ (parseMethodDescriptor yJ12_init_2.desc).map (fun d => d.parameters.length) = some 4 := ⟨rfl, hd_J12_init_2⟩
set_option maxHeartbeats 4000000 in
set_option maxRecDepth 100000 in
theorem wk_J12_init_2 {X : XC} (O : XOk X cJ12_init_2 RJ12 1 20) (hfl : (xL X).stackTraces = false) (hg : (xG X).2.2.2.2 = zAll (xG X).1.1 (xG X).1.2.2.2 (xG X).2.2.2.1) (hr : (xMeth X).sig.returnType = none) (hm : (xC X).maxLocals = 5) (o : Nat) (x1 : Option Nat) (x2 : Option Nat) (x3 : Int32) (x4 : Int32) (s : XS) : Sim X xI (retC X eU xI) 0 [(0, .ref o), (1, va_rf x1), (2, va_rf x2), (3, .int x3), (4, .int x4)] [] s (j12_init_2 o x1 x2 x3 x4 s) := by
  have hzz := O.hst
  rw [hg] at hzz
  unfold j12_init_2
  have hj41 : ∀ (s7 : XS), Sim X (xI) (retC X eU xI) 41 [(0, .ref o), (1, va_rf x1), (2, va_rf x2), (3, .int x3)] [] s7 (j12_init_2_j41 o x1 x2 x3 s7) := by
    intro s7
    unfold j12_init_2_j41
    refine s_aload_n O 0 rfl rfl dJ12_init_2_41 ?_
    refine s_aload_nQ O 1 rfl rfl dJ12_init_2_42 ?_
    refine x_put O (ci := 4) (T := TX4) (N := 8) (ty := (.object "java/lang/String")) in_X4 tyX4 tyX4_ok nmX4 rfl 3 (by decide) q660 (fun _ h => h) rfl (by decide +kernel) (nmQ _ _) (ftQ _ _) dJ12_init_2_43 (fun s8 => ?_)
    refine s_aload_n O 0 rfl rfl dJ12_init_2_46 ?_
    refine s_aload_nQ O 2 rfl rfl dJ12_init_2_47 ?_
    refine x_put O (ci := 4) (T := TX4) (N := 8) (ty := (.object "java/lang/Throwable")) in_X4 tyX4 tyX4_ok nmX4 rfl 0 (by decide) q661 (fun _ h => h) rfl (by decide +kernel) (nmQ _ _) (ftQ _ _) dJ12_init_2_48 (fun s9 => ?_)
    refine s_iload_n O 3 rfl rfl dJ12_init_2_51 ?_
    refine s_if_ne O (tgt := 60) dJ12_init_2_52 (by decide) ?_ ?_
    · exact s_return O hr rfl dJ12_init_2_60
    · refine s_aload_n O 0 rfl rfl dJ12_init_2_55 ?_
      refine s_null O dJ12_init_2_56 ?_
      refine x_put O (ci := 4) (T := TX4) (N := 8) (ty := (.object "java/util/List")) in_X4 tyX4 tyX4_ok nmX4 rfl 2 (by decide) q663 (fun _ h => h) rfl (by decide +kernel) rfl rfl dJ12_init_2_57 (fun s10 => ?_)
      exact s_return O hr rfl dJ12_init_2_60
  refine s_aload_n O 0 rfl rfl dJ12_init_2_0 ?_
  refine x_objInit O q631 q163 q164 ⟨Nat.le_of_ble_eq_true rfl, Nat.le_of_ble_eq_true rfl⟩ (Nat.le_of_ble_eq_true rfl) dJ12_init_2_1 ?_
  refine s_aload_n O 0 rfl rfl dJ12_init_2_4 ?_
  refine s_aload_n O 0 rfl rfl dJ12_init_2_5 ?_
  refine x_put O (ci := 4) (T := TX4) (N := 8) (ty := (.object "java/lang/Throwable")) in_X4 tyX4 tyX4_ok nmX4 rfl 0 (by decide) q661 (fun _ h => h) rfl (by decide +kernel) rfl rfl dJ12_init_2_6 (fun s1 => ?_)
  refine s_aload_n O 0 rfl rfl dJ12_init_2_9 ?_
  refine x_getst O (j := 3) (zs_3 hzz) q632 (fun _ h => h) dJ12_init_2_10 ?_
  refine s_nmQ (fun r2 => ?_)
  refine x_put O (ci := 4) (T := TX4) (N := 8) (ty := (.array (.object "java/lang/StackTraceElement"))) in_X4 tyX4 tyX4_ok nmX4 rfl 1 (by decide) q662 (fun _ h => h) rfl (by decide +kernel) (nmA _ _) (ftA _ _) dJ12_init_2_13 (fun s3 => ?_)
  refine s_aload_n O 0 rfl rfl dJ12_init_2_16 ?_
  refine x_getst O (j := 4) (zs_4 hzz) q634 (fun _ h => h) dJ12_init_2_17 ?_
  refine s_nmQ (fun r4 => ?_)
  refine x_put O (ci := 4) (T := TX4) (N := 8) (ty := (.object "java/util/List")) in_X4 tyX4 tyX4_ok nmX4 rfl 2 (by decide) q663 (fun _ h => h) rfl (by decide +kernel) (nmQ _ _) (ftQ _ _) dJ12_init_2_20 (fun s5 => ?_)
  refine s_iload O 4 rfl dJ12_init_2_23 ?_
  refine s_if_eq O (tgt := 36) dJ12_init_2_25 (by decide) ?_ ?_
  · refine s_aload_n O 0 rfl rfl dJ12_init_2_36 ?_
    refine s_null O dJ12_init_2_37 ?_
    refine x_put O (ci := 4) (T := TX4) (N := 8) (ty := (.array (.object "java/lang/StackTraceElement"))) in_X4 tyX4 tyX4_ok nmX4 rfl 1 (by decide) q662 (fun _ h => h) rfl (by decide +kernel) rfl rfl dJ12_init_2_38 (fun s6 => ?_)
    refine Sim.sub (L' := [(0, .ref o), (1, va_rf x1), (2, va_rf x2), (3, .int x3)]) [0, 1, 2, 3] rfl ?_
    exact hj41 _
  · exact Sim.none
theorem mt_J12_init_2 (l : Launch) (G : XG) (hfl : l.stackTraces = false) (hg : G.2.2.2.2 = zAll G.1.1 G.1.2.2.2 G.2.2.2.1) (o : Nat) (x1 : Option Nat) (x2 : Option Nat) (x3 : Int32) (x4 : Int32) (s t : XS) (v : Unit) (h : j12_init_2 o x1 x2 x3 x4 s = some (v, t)) : xMet l yJ12_init_2 (ws_ yJ12_init_2 cJ12_init_2 5 none) 1 20 G (xI s) [.ref o, va_rf x1, va_rf x2, .int x3, .int x4] (eU v) (xI t) :=
  xMet_of (E := xI) (enc := eU) (by decide +kernel) (by generalize x1 = zq0; generalize x2 = zq1; cases zq0 <;> cases zq1 <;> exact Nat.le_of_ble_eq_true rfl) (fun X hl hG O hr hm => by subst hl; subst hG; rw [show lv_args 0 [.ref o, va_rf x1, va_rf x2, .int x3, .int x4] = [(0, .ref o), (1, va_rf x1), (2, va_rf x2), (3, .int x3), (4, .int x4)] from (by generalize x1 = zq0; generalize x2 = zq1; cases zq0 <;> cases zq1 <;> rfl)]; exact wk_J12_init_2 O hfl hg hr hm o x1 x2 x3 x4 s) h
theorem hd_J13_init : yJ13_init.cls ≠ "java/lang/invoke/MethodHandle" ∧ yJ13_init.cls ≠ "java/lang/invoke/VarHandle" ∧ (parseMethodDescriptor yJ13_init.desc).map (fun d => d.parameters.length) = some 4 := by decide +kernel
theorem hv_J13_init : yJ13_init.cls = RJ13 ∧ yJ13_init.cls ≠ "java/lang/invoke/MethodHandle" ∧ yJ13_init.cls ≠ "java/lang/invoke/VarHandle" ∧ (parseMethodDescriptor yJ13_init.desc).map (fun d => d.parameters.length) = some 4 := ⟨rfl, hd_J13_init⟩
set_option maxHeartbeats 4000000 in
set_option maxRecDepth 100000 in
theorem wk_J13_init {X : XC} (O : XOk X cJ13_init RJ13 2 44) (hfl : (xL X).stackTraces = false) (hg : (xG X).2.2.2.2 = zAll (xG X).1.1 (xG X).1.2.2.2 (xG X).2.2.2.1) (hr : (xMeth X).sig.returnType = none) (hm : (xC X).maxLocals = 5) (o : Nat) (x1 : Option Nat) (x2 : Option Nat) (x3 : Int32) (x4 : Int32) (s : XS) : Sim X xI (retC X eU xI) 0 [(0, .ref o), (1, va_rf x1), (2, va_rf x2), (3, .int x3), (4, .int x4)] [] s (j13_init o x1 x2 x3 x4 s) := by
  have hzz := O.hst
  rw [hg] at hzz
  unfold j13_init
  refine s_aload_n O 0 rfl rfl dJ13_init_0 ?_
  refine s_aload_nQ O 1 rfl rfl dJ13_init_1 ?_
  refine s_aload_nQ O 2 rfl rfl dJ13_init_2 ?_
  refine s_iload_n O 3 rfl rfl dJ13_init_3 ?_
  refine s_iload O 4 rfl dJ13_init_4 ?_
  refine x_callI O (enc2 := eU) (av := [va_rf x1, va_rf x2, .int x3, .int x4]) (rest := []) 4 (fun v0 t0 h0 => mt_J12_init_2 (xL X) (xG X) hfl hg o x1 x2 x3 x4 _ t0 v0 h0) q654 q148 q652 q653 rfl hd_J12_init_2 ⟨Nat.le_of_ble_eq_true rfl, Nat.le_of_ble_eq_true rfl⟩ rfl (Nat.le_of_ble_eq_true rfl) dJ13_init_6 (fun v1 s2 => ?_)
  exact s_return O hr rfl dJ13_init_9
theorem mt_J13_init (l : Launch) (G : XG) (hfl : l.stackTraces = false) (hg : G.2.2.2.2 = zAll G.1.1 G.1.2.2.2 G.2.2.2.1) (o : Nat) (x1 : Option Nat) (x2 : Option Nat) (x3 : Int32) (x4 : Int32) (s t : XS) (v : Unit) (h : j13_init o x1 x2 x3 x4 s = some (v, t)) : xMet l yJ13_init (ws_ yJ13_init cJ13_init 5 none) 2 44 G (xI s) [.ref o, va_rf x1, va_rf x2, .int x3, .int x4] (eU v) (xI t) :=
  xMet_of (E := xI) (enc := eU) (by decide +kernel) (by generalize x1 = zq0; generalize x2 = zq1; cases zq0 <;> cases zq1 <;> exact Nat.le_of_ble_eq_true rfl) (fun X hl hG O hr hm => by subst hl; subst hG; rw [show lv_args 0 [.ref o, va_rf x1, va_rf x2, .int x3, .int x4] = [(0, .ref o), (1, va_rf x1), (2, va_rf x2), (3, .int x3), (4, .int x4)] from (by generalize x1 = zq0; generalize x2 = zq1; cases zq0 <;> cases zq1 <;> rfl)]; exact wk_J13_init O hfl hg hr hm o x1 x2 x3 x4 s) h
theorem hd_X4_init : yX4_init.cls ≠ "java/lang/invoke/MethodHandle" ∧ yX4_init.cls ≠ "java/lang/invoke/VarHandle" ∧ (parseMethodDescriptor yX4_init.desc).map (fun d => d.parameters.length) = some 2 := by decide +kernel
theorem hv_X4_init : yX4_init.cls = RX4 ∧ yX4_init.cls ≠ "java/lang/invoke/MethodHandle" ∧ yX4_init.cls ≠ "java/lang/invoke/VarHandle" ∧ (parseMethodDescriptor yX4_init.desc).map (fun d => d.parameters.length) = some 2 := ⟨rfl, hd_X4_init⟩
set_option maxHeartbeats 4000000 in
set_option maxRecDepth 100000 in
theorem wk_X4_init {X : XC} (O : XOk X cX4_init RX4 3 68) (hfl : (xL X).stackTraces = false) (hg : (xG X).2.2.2.2 = zAll (xG X).1.1 (xG X).1.2.2.2 (xG X).2.2.2.1) (hr : (xMeth X).sig.returnType = none) (hm : (xC X).maxLocals = 3) (hinit : (xMeth X).name = "<init>") (o : Nat) (x1 : Int32) (x2 : Int32) (s : XS) : Sim X xI (retC X eU xI) 0 [(0, .ref o), (1, .int x1), (2, .int x2)] [] s (x4_init o x1 x2 s) := by
  have hzz := O.hst
  rw [hg] at hzz
  unfold x4_init
  refine s_aload_n O 0 rfl rfl dX4_init_0 ?_
  refine s_null O dX4_init_1 ?_
  refine s_null O dX4_init_2 ?_
  refine s_iconst O (x := 0) (by decide) dX4_init_3 ?_
  refine s_iconst O (x := 0) (by decide) dX4_init_4 ?_
  refine x_callI O (enc2 := eU) (av := [va_rf none, va_rf none, .int 0, .int 0]) (rest := []) 4 (fun v0 t0 h0 => mt_J13_init (xL X) (xG X) hfl hg o none none 0 0 _ t0 v0 h0) q651 q149 q649 q650 rfl hd_J13_init ⟨Nat.le_of_ble_eq_true rfl, Nat.le_of_ble_eq_true rfl⟩ rfl (Nat.le_of_ble_eq_true rfl) dX4_init_5 (fun v1 s2 => ?_)
  refine s_aload_n O 0 rfl rfl dX4_init_8 ?_
  refine s_iload_n O 1 rfl rfl dX4_init_9 ?_
  refine x_putF O (ci := 4) (T := TX4) (N := 8) (ty := .int) in_X4 tyX4 tyX4_ok nmX4 rfl 6 (by decide) q655 (fun _ h => h) rfl hinit rfl (by decide +kernel) rfl rfl dX4_init_10 (fun s3 => ?_)
  refine s_aload_n O 0 rfl rfl dX4_init_13 ?_
  refine s_iload_n O 2 rfl rfl dX4_init_14 ?_
  refine x_putF O (ci := 4) (T := TX4) (N := 8) (ty := .int) in_X4 tyX4 tyX4_ok nmX4 rfl 7 (by decide) q657 (fun _ h => h) rfl hinit rfl (by decide +kernel) rfl rfl dX4_init_15 (fun s4 => ?_)
  exact s_return O hr rfl dX4_init_18
theorem mt_X4_init (l : Launch) (G : XG) (hfl : l.stackTraces = false) (hg : G.2.2.2.2 = zAll G.1.1 G.1.2.2.2 G.2.2.2.1) (o : Nat) (x1 : Int32) (x2 : Int32) (s t : XS) (v : Unit) (h : x4_init o x1 x2 s = some (v, t)) : xMet l yX4_init (ws_ yX4_init cX4_init 3 none) 3 68 G (xI s) [.ref o, .int x1, .int x2] (eU v) (xI t) :=
  xMet_ofN rfl (E := xI) (enc := eU) (by decide +kernel) (Nat.le_of_ble_eq_true rfl) (fun X hl hG O hr hm hinit => by subst hl; subst hG; exact wk_X4_init O hfl hg hr hm hinit o x1 x2 s) h
theorem hd_X3_unlike : yX3_unlike.cls ≠ "java/lang/invoke/MethodHandle" ∧ yX3_unlike.cls ≠ "java/lang/invoke/VarHandle" ∧ (parseMethodDescriptor yX3_unlike.desc).map (fun d => d.parameters.length) = some 0 := by decide +kernel
theorem hv_X3_unlike : yX3_unlike.cls = RX3 ∧ yX3_unlike.cls ≠ "java/lang/invoke/MethodHandle" ∧ yX3_unlike.cls ≠ "java/lang/invoke/VarHandle" ∧ (parseMethodDescriptor yX3_unlike.desc).map (fun d => d.parameters.length) = some 0 := ⟨rfl, hd_X3_unlike⟩
theorem hu_X3_unlike : yX3_unlike.name ≠ "<init>" ∧ (parseMethodDescriptor yX3_unlike.desc).map (fun d => d.parameters.length) = some 0 := ⟨by decide +kernel, hd_X3_unlike.2.2⟩
set_option maxHeartbeats 4000000 in
set_option maxRecDepth 100000 in
theorem wk_X3_unlike {X : XC} (O : XOk X cX3_unlike RX3 4 90) (hfl : (xL X).stackTraces = false) (hg : (xG X).2.2.2.2 = zAll (xG X).1.1 (xG X).1.2.2.2 (xG X).2.2.2.1) (hr : (xMeth X).sig.returnType = (some (.object "QuotientRows$Fault"))) (hm : (xC X).maxLocals = 1) (o : Nat) (s : XS) : Sim X xI (retC X eR xI) 0 [(0, .ref o)] [] s (x3_unlike o s) := by
  have hzz := O.hst
  rw [hg] at hzz
  unfold x3_unlike
  refine x_new O (ci := 4) (T := TX4) (N := 8) (fs := dfX4) in_X4 tyX4 tyX4_ok rfl 8 q608 q609 q150 rfl dfX4_ok dX3_unlike_0 (fun p1 s2 => ?_)
  refine s_dup O rfl dX3_unlike_3 ?_
  refine s_iconst O (x := 1) (by decide) dX3_unlike_4 ?_
  refine s_aload_n O 0 rfl rfl dX3_unlike_5 ?_
  refine x_callV O (enc2 := eI) (ci := 3) (av := []) (rest := [.int 1, .ref p1, .ref p1]) 0 (fun v0 t0 h0 => mt_X3_next (xL X) (xG X) hfl hg o _ t0 v0 h0) (lw_V q375 q377 qs6 q137 q378) hv_X3_next ⟨Nat.le_of_ble_eq_true rfl, Nat.le_of_ble_eq_true rfl⟩ rfl rfl (Nat.le_of_ble_eq_true rfl) dX3_unlike_6 (fun v3 s4 => ?_)
  refine x_callI O (enc2 := eU) (av := [.int 1, .int v3]) (rest := [.ref p1]) 2 (fun v0 t0 h0 => mt_X4_init (xL X) (xG X) hfl hg p1 1 v3 _ t0 v0 h0) q648 q150 q646 q647 rfl hd_X4_init ⟨Nat.le_of_ble_eq_true rfl, Nat.le_of_ble_eq_true rfl⟩ rfl (Nat.le_of_ble_eq_true rfl) dX3_unlike_9 (fun v5 s6 => ?_)
  exact s_areturnQ O (r := (some p1)) hr (Or.inl ⟨_, rfl⟩) rfl dX3_unlike_12
theorem mt_X3_unlike (l : Launch) (G : XG) (hfl : l.stackTraces = false) (hg : G.2.2.2.2 = zAll G.1.1 G.1.2.2.2 G.2.2.2.1) (o : Nat) (s t : XS) (v : Option Nat) (h : x3_unlike o s = some (v, t)) : xMet l yX3_unlike (ws_ yX3_unlike cX3_unlike 1 (some (.object "QuotientRows$Fault"))) 4 90 G (xI s) [.ref o] (eR v) (xI t) :=
  xMet_of (E := xI) (enc := eR) (by decide +kernel) (Nat.le_of_ble_eq_true rfl) (fun X hl hG O hr hm => by subst hl; subst hG; exact wk_X3_unlike O hfl hg hr hm o s) h
theorem hd_X3_isDigit : yX3_isDigit.cls ≠ "java/lang/invoke/MethodHandle" ∧ yX3_isDigit.cls ≠ "java/lang/invoke/VarHandle" ∧ (parseMethodDescriptor yX3_isDigit.desc).map (fun d => d.parameters.length) = some 1 := by decide +kernel
theorem hv_X3_isDigit : yX3_isDigit.cls = RX3 ∧ yX3_isDigit.cls ≠ "java/lang/invoke/MethodHandle" ∧ yX3_isDigit.cls ≠ "java/lang/invoke/VarHandle" ∧ (parseMethodDescriptor yX3_isDigit.desc).map (fun d => d.parameters.length) = some 1 := ⟨rfl, hd_X3_isDigit⟩
theorem hu_X3_isDigit : yX3_isDigit.name ≠ "<init>" ∧ (parseMethodDescriptor yX3_isDigit.desc).map (fun d => d.parameters.length) = some 1 := ⟨by decide +kernel, hd_X3_isDigit.2.2⟩
set_option maxHeartbeats 4000000 in
set_option maxRecDepth 100000 in
theorem wk_X3_isDigit {X : XC} (O : XOk X cX3_isDigit RX3 1 25) (hfl : (xL X).stackTraces = false) (hg : (xG X).2.2.2.2 = zAll (xG X).1.1 (xG X).1.2.2.2 (xG X).2.2.2.1) (hr : (xMeth X).sig.returnType = (some .boolean)) (hm : (xC X).maxLocals = 2) (o : Nat) (x1 : Int32) (s : XS) : Sim X xI (retC X eI xI) 0 [(0, .ref o), (1, .int x1)] [] s (x3_isDigit o x1 s) := by
  have hzz := O.hst
  rw [hg] at hzz
  unfold x3_isDigit
  refine s_iload_n O 1 rfl rfl dX3_isDigit_0 ?_
  refine s_aload_n O 0 rfl rfl dX3_isDigit_1 ?_
  refine x_get O (ci := 3) (T := TX3) (N := 8) in_X3 rfl 0 (by decide) q337 (fun _ h => h) dX3_isDigit_2 (fun v0 => ?_)
  refine s_vI (fun u1 => ?_)
  refine s_icmp_ge O (tgt := 34) dX3_isDigit_5 (by decide) ?_ ?_
  · refine s_iconst O (x := 0) (by decide) dX3_isDigit_34 ?_
    exact s_zreturnK O hr rfl rfl dX3_isDigit_35
  · refine s_aload_n O 0 rfl rfl dX3_isDigit_8 ?_
    refine x_get O (ci := 3) (T := TX3) (N := 8) in_X3 rfl 7 (by decide) q344 (fun _ h => h) dX3_isDigit_9 (fun v0 => ?_)
    refine s_vR (fun r2 => ?_)
    refine s_dr (fun p3 hp4 => ?_)
    subst hp4
    refine x_getN O (ci := 0) (T := TX0) (N := 20) in_X0 rfl 0 (by decide) (zf_q231 hzz) (fun _ h => h) dX3_isDigit_12 (fun v0 => ?_)
    refine s_vR (fun r5 => ?_)
    refine s_iload_n O 1 rfl rfl dX3_isDigit_15 ?_
    refine s_dr (fun p6 hp7 => ?_)
    subst hp7
    refine x_bald O dX3_isDigit_16 (fun u8 => ?_)
    refine s_i2l O dX3_isDigit_17 ?_
    refine s_ldc2 O (x := 48) q602 dX3_isDigit_18 ?_
    refine s_ldc2 O (x := 57) q603 dX3_isDigit_21 ?_
    refine s_callPN O (enc2 := eI) (av := [.long u8.toInt64, .long 48, .long 57]) (rest := []) 3 (fun v0 h0 => mt_X0_isIn (xL X) (xG X) _ u8.toInt64 48 57 v0 h0) q319 (zm_q385 hzz) q131 q318 hd_X0_isIn ⟨Nat.le_of_ble_eq_true rfl, Nat.le_of_ble_eq_true rfl⟩ rfl (Nat.le_of_ble_eq_true rfl) dX3_isDigit_24 (fun v9 => ?_)
    refine s_if_eq O (tgt := 34) dX3_isDigit_27 (by decide) ?_ ?_
    · refine s_iconst O (x := 0) (by decide) dX3_isDigit_34 ?_
      exact s_zreturnK O hr rfl rfl dX3_isDigit_35
    · refine s_iconst O (x := 1) (by decide) dX3_isDigit_30 ?_
      refine s_goto O (tgt := 35) dX3_isDigit_31 (by decide) ?_
      exact s_zreturnK O hr rfl rfl dX3_isDigit_35
theorem mt_X3_isDigit (l : Launch) (G : XG) (hfl : l.stackTraces = false) (hg : G.2.2.2.2 = zAll G.1.1 G.1.2.2.2 G.2.2.2.1) (o : Nat) (x1 : Int32) (s t : XS) (v : Int32) (h : x3_isDigit o x1 s = some (v, t)) : xMet l yX3_isDigit (ws_ yX3_isDigit cX3_isDigit 2 (some .boolean)) 1 25 G (xI s) [.ref o, .int x1] (eI v) (xI t) :=
  xMet_of (E := xI) (enc := eI) (by decide +kernel) (Nat.le_of_ble_eq_true rfl) (fun X hl hG O hr hm => by subst hl; subst hG; exact wk_X3_isDigit O hfl hg hr hm o x1 s) h
theorem hd_X3_number : yX3_number.cls ≠ "java/lang/invoke/MethodHandle" ∧ yX3_number.cls ≠ "java/lang/invoke/VarHandle" ∧ (parseMethodDescriptor yX3_number.desc).map (fun d => d.parameters.length) = some 0 := by decide +kernel
theorem hv_X3_number : yX3_number.cls = RX3 ∧ yX3_number.cls ≠ "java/lang/invoke/MethodHandle" ∧ yX3_number.cls ≠ "java/lang/invoke/VarHandle" ∧ (parseMethodDescriptor yX3_number.desc).map (fun d => d.parameters.length) = some 0 := ⟨rfl, hd_X3_number⟩
theorem hu_X3_number : yX3_number.name ≠ "<init>" ∧ (parseMethodDescriptor yX3_number.desc).map (fun d => d.parameters.length) = some 0 := ⟨by decide +kernel, hd_X3_number.2.2⟩
set_option maxHeartbeats 4000000 in
set_option maxRecDepth 100000 in
theorem wk_X3_number {X : XC} (O : XOk X cX3_number RX3 5 110) (hfl : (xL X).stackTraces = false) (hg : (xG X).2.2.2.2 = zAll (xG X).1.1 (xG X).1.2.2.2 (xG X).2.2.2.1) (hr : (xMeth X).sig.returnType = (some .int)) (hm : (xC X).maxLocals = 4) (hout : ∀ x ∈ (xC X).exceptionTable.toList, False) (o : Nat) (s : XS) : Sim X xI (retCT X eI 4 xI) 0 [(0, .ref o)] [] s (x3_number o s) := by
  have hzz := O.hst
  rw [hg] at hzz
  unfold x3_number
  refine s_aload_n O 0 rfl rfl dX3_number_0 ?_
  refine x_callV O (enc2 := eI) (ci := 3) (av := []) (rest := []) 0 (fun v0 t0 h0 => mt_X3_next (xL X) (xG X) hfl hg o _ t0 v0 h0) (lw_V q375 q377 qs6 q137 q378) hv_X3_next ⟨Nat.le_of_ble_eq_true rfl, Nat.le_of_ble_eq_true rfl⟩ rfl rfl (Nat.le_of_ble_eq_true rfl) dX3_number_1 (fun v1 s2 => ?_)
  refine s_istore_n O (L' := [(1, .int v1), (0, .ref o)]) hm (by decide) rfl rfl dX3_number_4 ?_
  refine s_iload_n O 0 rfl rfl dX3_number_5 ?_
  refine s_istore_n O (L' := [(2, .int v1), (1, .int v1), (0, .ref o)]) hm (by decide) rfl rfl dX3_number_6 ?_
  refine s_iconst O (x := 0) (by decide) dX3_number_7 ?_
  refine s_istore_n O (L' := [(3, .int 0), (2, .int v1), (1, .int v1), (0, .ref o)]) hm (by decide) rfl rfl dX3_number_8 ?_
  refine Sim.sub (L' := [(0, .ref o), (1, .int v1), (2, .int v1), (3, .int 0)]) [3, 2, 1, 0] rfl ?_
  refine s_while (A := Int32) (B := Int32) (La := fun a9 => [(0, .ref o), (1, .int v1), (2, .int a9), (3, .int 0)]) (We := fun b9 s6 => xWX X 23 [(0, .ref o), (1, .int v1), (2, .int b9), (3, .int 0)] [] ((xI) s6)) rfl rfl ?_ ?_
  · intro Cl hn he a9 s3
    unfold x3_number_s9
    refine s_aload_n O 0 rfl rfl dX3_number_9 ?_
    refine s_iload_n O 2 rfl rfl dX3_number_10 ?_
    refine x_callV O (enc2 := eI) (ci := 3) (av := [.int a9]) (rest := []) 1 (fun v0 t0 h0 => mt_X3_isDigit (xL X) (xG X) hfl hg o a9 _ t0 v0 h0) (lw_V q598 q600 qs10 q137 q601) hv_X3_isDigit ⟨Nat.le_of_ble_eq_true rfl, Nat.le_of_ble_eq_true rfl⟩ rfl rfl (Nat.le_of_ble_eq_true rfl) dX3_number_11 (fun v4 s5 => ?_)
    refine s_if_eq O (tgt := 23) dX3_number_14 (by decide) ?_ ?_
    · exact Sim.ret (he _ _)
    · refine s_iinc O (y := (a9 + 1)) (L' := [(2, .int (a9 + 1)), (0, .ref o), (1, .int v1), (3, .int 0)]) 2 rfl hm (by decide) rfl rfl dX3_number_17 ?_
      refine s_goto O (tgt := 9) dX3_number_20 (by decide) ?_
      refine Sim.sub (L' := [(0, .ref o), (1, .int v1), (2, .int (a9 + 1)), (3, .int 0)]) [1, 2, 0, 3] rfl ?_
      exact Sim.ret (hn _ _)
  · intro b9 s6
    show Sim X (xI) (retCT X eI 4 xI) 23 [(0, .ref o), (1, .int v1), (2, .int b9), (3, .int 0)] [] s6 _
    refine s_iload_n O 2 rfl rfl dX3_number_23 ?_
    refine s_iload_n O 1 rfl rfl dX3_number_24 ?_
    refine s_icmp_eq O (tgt := 44) dX3_number_25 (by decide) ?_ ?_
    · refine s_aload_n O 0 rfl rfl dX3_number_44 ?_
      refine x_callV O (enc2 := eR) (ci := 3) (av := []) (rest := []) 0 (fun v0 t0 h0 => mt_X3_unlike (xL X) (xG X) hfl hg o _ t0 v0 h0) (lw_V q604 q606 qs11 q137 q607) hv_X3_unlike ⟨Nat.le_of_ble_eq_true rfl, Nat.le_of_ble_eq_true rfl⟩ rfl rfl (Nat.le_of_ble_eq_true rfl) dX3_number_45 (fun r7 s8 => ?_)
      refine s_dr (fun p9 hp10 => ?_)
      subst hp10
      refine x_athrow O (ci := 4) rfl dX3_number_48 ?_
      exact sx_out O hout
    · refine s_iload_n O 2 rfl rfl dX3_number_28 ?_
      refine s_iload_n O 1 rfl rfl dX3_number_29 ?_
      refine s_isub O dX3_number_30 ?_
      refine s_bipush O (x := 6) (by decide) dX3_number_31 ?_
      refine s_icmp_gt O (tgt := 44) dX3_number_33 (by decide) ?_ ?_
      · refine s_aload_n O 0 rfl rfl dX3_number_44 ?_
        refine x_callV O (enc2 := eR) (ci := 3) (av := []) (rest := []) 0 (fun v0 t0 h0 => mt_X3_unlike (xL X) (xG X) hfl hg o _ t0 v0 h0) (lw_V q604 q606 qs11 q137 q607) hv_X3_unlike ⟨Nat.le_of_ble_eq_true rfl, Nat.le_of_ble_eq_true rfl⟩ rfl rfl (Nat.le_of_ble_eq_true rfl) dX3_number_45 (fun r11 s12 => ?_)
        refine s_dr (fun p13 hp14 => ?_)
        subst hp14
        refine x_athrow O (ci := 4) rfl dX3_number_48 ?_
        exact sx_out O hout
      · refine s_iload_n O 1 rfl rfl dX3_number_36 ?_
        refine s_aload_n O 0 rfl rfl dX3_number_37 ?_
        refine x_get O (ci := 3) (T := TX3) (N := 8) in_X3 rfl 2 (by decide) q339 (fun _ h => h) dX3_number_38 (fun v0 => ?_)
        refine s_vI (fun u15 => ?_)
        refine s_icmp_ne O (tgt := 49) dX3_number_41 (by decide) ?_ ?_
        · refine Sim.sub (L' := [(0, .ref o), (2, .int b9), (3, .int 0)]) [0, 2, 3] rfl ?_
          refine s_while (A := Int32) (B := Int32) (La := fun a49 => [(0, .ref o), (2, .int b9), (3, .int a49)]) (We := fun b49 s29 => xWX X 91 [(0, .ref o), (2, .int b9), (3, .int b49)] [] ((xI) s29)) rfl rfl ?_ ?_
          · intro Cl hn he a49 s16
            unfold x3_number_s49
            refine s_aload_n O 0 rfl rfl dX3_number_49 ?_
            refine x_get O (ci := 3) (T := TX3) (N := 8) in_X3 rfl 1 (by decide) q338 (fun _ h => h) dX3_number_50 (fun v0 => ?_)
            refine s_vI (fun u17 => ?_)
            refine s_iload_n O 1 rfl rfl dX3_number_53 ?_
            refine s_icmp_ge O (tgt := 91) dX3_number_54 (by decide) ?_ ?_
            · exact Sim.ret (he _ _)
            · refine s_bipush O (x := 10) (by decide) dX3_number_57 ?_
              refine s_iload_n O 2 rfl rfl dX3_number_59 ?_
              refine s_imul O dX3_number_60 ?_
              refine s_aload_n O 0 rfl rfl dX3_number_61 ?_
              refine x_get O (ci := 3) (T := TX3) (N := 8) in_X3 rfl 7 (by decide) q344 (fun _ h => h) dX3_number_62 (fun v0 => ?_)
              refine s_vR (fun r18 => ?_)
              refine s_dr (fun p19 hp20 => ?_)
              subst hp20
              refine x_getN O (ci := 0) (T := TX0) (N := 20) in_X0 rfl 0 (by decide) (zf_q231 hzz) (fun _ h => h) dX3_number_65 (fun v0 => ?_)
              refine s_vR (fun r21 => ?_)
              refine s_aload_n O 0 rfl rfl dX3_number_68 ?_
              refine x_get O (ci := 3) (T := TX3) (N := 8) in_X3 rfl 1 (by decide) q338 (fun _ h => h) dX3_number_69 (fun v0 => ?_)
              refine s_vI (fun u22 => ?_)
              refine s_dr (fun p23 hp24 => ?_)
              subst hp24
              refine x_bald O dX3_number_72 (fun u25 => ?_)
              refine s_iadd O dX3_number_73 ?_
              refine s_bipush O (x := 48) (by decide) dX3_number_74 ?_
              refine s_isub O dX3_number_76 ?_
              refine s_nmi fun u26 => ?_
              refine s_istore_n O (L' := [(3, .int u26), (0, .ref o), (2, .int b9)]) hm (by decide) rfl rfl dX3_number_77 ?_
              refine s_aload_n O 1 rfl rfl dX3_number_78 ?_
              refine s_dup O rfl dX3_number_79 ?_
              refine x_get O (ci := 3) (T := TX3) (N := 8) in_X3 rfl 1 (by decide) q338 (fun _ h => h) dX3_number_80 (fun v0 => ?_)
              refine s_vI (fun u27 => ?_)
              refine s_iconst O (x := 1) (by decide) dX3_number_83 ?_
              refine s_iadd O dX3_number_84 ?_
              refine x_put O (ci := 3) (T := TX3) (N := 8) (ty := .int) in_X3 tyX3 tyX3_ok nmX3 rfl 1 (by decide) q338 (fun _ h => h) rfl (by decide +kernel) rfl rfl dX3_number_85 (fun s28 => ?_)
              refine s_goto O (tgt := 49) dX3_number_88 (by decide) ?_
              refine Sim.sub (L' := [(0, .ref o), (2, .int b9), (3, .int u26)]) [1, 2, 0] rfl ?_
              exact Sim.ret (hn _ _)
          · intro b49 s29
            show Sim X (xI) (retCT X eI 4 xI) 91 [(0, .ref o), (2, .int b9), (3, .int b49)] [] s29 _
            refine s_aload_n O 0 rfl rfl dX3_number_91 ?_
            refine s_iload_n O 1 rfl rfl dX3_number_92 ?_
            refine x_put O (ci := 3) (T := TX3) (N := 8) (ty := .int) in_X3 tyX3 tyX3_ok nmX3 rfl 2 (by decide) q339 (fun _ h => h) rfl (by decide +kernel) rfl rfl dX3_number_93 (fun s30 => ?_)
            refine s_iload_n O 2 rfl rfl dX3_number_96 ?_
            exact s_ireturnT O hr rfl dX3_number_97
        · refine s_aload_n O 0 rfl rfl dX3_number_44 ?_
          refine x_callV O (enc2 := eR) (ci := 3) (av := []) (rest := []) 0 (fun v0 t0 h0 => mt_X3_unlike (xL X) (xG X) hfl hg o _ t0 v0 h0) (lw_V q604 q606 qs11 q137 q607) hv_X3_unlike ⟨Nat.le_of_ble_eq_true rfl, Nat.le_of_ble_eq_true rfl⟩ rfl rfl (Nat.le_of_ble_eq_true rfl) dX3_number_45 (fun r31 s32 => ?_)
          refine s_dr (fun p33 hp34 => ?_)
          subst hp34
          refine x_athrow O (ci := 4) rfl dX3_number_48 ?_
          exact sx_out O hout
theorem mt_X3_number (l : Launch) (G : XG) (hfl : l.stackTraces = false) (hg : G.2.2.2.2 = zAll G.1.1 G.1.2.2.2 G.2.2.2.1) (o : Nat) (s t : XS) (v : (Int32) ⊕ Nat) (h : x3_number o s = some (v, t)) : xMetT l yX3_number (ws_ yX3_number cX3_number 4 (some .int)) 5 110 G (xI s) [.ref o] eI 4 v (xI t) :=
  xMetT_of (E := xI) (enc := eI) (by decide +kernel) (Nat.le_of_ble_eq_true rfl) (fun X hl hG O hr hm hout => by subst hl; subst hG; exact wk_X3_number O hfl hg hr hm hout o s) h
theorem hd_X3_takesEnd : yX3_takesEnd.cls ≠ "java/lang/invoke/MethodHandle" ∧ yX3_takesEnd.cls ≠ "java/lang/invoke/VarHandle" ∧ (parseMethodDescriptor yX3_takesEnd.desc).map (fun d => d.parameters.length) = some 0 := by decide +kernel
theorem hv_X3_takesEnd : yX3_takesEnd.cls = RX3 ∧ yX3_takesEnd.cls ≠ "java/lang/invoke/MethodHandle" ∧ yX3_takesEnd.cls ≠ "java/lang/invoke/VarHandle" ∧ (parseMethodDescriptor yX3_takesEnd.desc).map (fun d => d.parameters.length) = some 0 := ⟨rfl, hd_X3_takesEnd⟩
theorem hu_X3_takesEnd : yX3_takesEnd.name ≠ "<init>" ∧ (parseMethodDescriptor yX3_takesEnd.desc).map (fun d => d.parameters.length) = some 0 := ⟨by decide +kernel, hd_X3_takesEnd.2.2⟩
set_option maxHeartbeats 4000000 in
set_option maxRecDepth 100000 in
theorem wk_X3_takesEnd {X : XC} (O : XOk X cX3_takesEnd RX3 1 20) (hfl : (xL X).stackTraces = false) (hg : (xG X).2.2.2.2 = zAll (xG X).1.1 (xG X).1.2.2.2 (xG X).2.2.2.1) (hr : (xMeth X).sig.returnType = (some .boolean)) (hm : (xC X).maxLocals = 1) (o : Nat) (s : XS) : Sim X xI (retC X eI xI) 0 [(0, .ref o)] [] s (x3_takesEnd o s) := by
  have hzz := O.hst
  rw [hg] at hzz
  unfold x3_takesEnd
  refine s_aload_n O 0 rfl rfl dX3_takesEnd_0 ?_
  refine x_callV O (enc2 := eI) (ci := 3) (av := []) (rest := []) 0 (fun v0 t0 h0 => mt_X3_next (xL X) (xG X) hfl hg o _ t0 v0 h0) (lw_V q375 q377 qs6 q137 q378) hv_X3_next ⟨Nat.le_of_ble_eq_true rfl, Nat.le_of_ble_eq_true rfl⟩ rfl rfl (Nat.le_of_ble_eq_true rfl) dX3_takesEnd_1 (fun v1 s2 => ?_)
  refine s_aload_n O 0 rfl rfl dX3_takesEnd_4 ?_
  refine x_get O (ci := 3) (T := TX3) (N := 8) in_X3 rfl 0 (by decide) q337 (fun _ h => h) dX3_takesEnd_5 (fun v0 => ?_)
  refine s_vI (fun u3 => ?_)
  refine s_icmp_eq O (tgt := 28) dX3_takesEnd_8 (by decide) ?_ ?_
  · refine s_iconst O (x := 0) (by decide) dX3_takesEnd_28 ?_
    exact s_zreturnK O hr rfl rfl dX3_takesEnd_29
  · refine s_aload_n O 0 rfl rfl dX3_takesEnd_11 ?_
    refine x_get O (ci := 3) (T := TX3) (N := 8) in_X3 rfl 7 (by decide) q344 (fun _ h => h) dX3_takesEnd_12 (fun v0 => ?_)
    refine s_vR (fun r4 => ?_)
    refine s_dr (fun p5 hp6 => ?_)
    subst hp6
    refine x_getN O (ci := 0) (T := TX0) (N := 20) in_X0 rfl 0 (by decide) (zf_q231 hzz) (fun _ h => h) dX3_takesEnd_15 (fun v0 => ?_)
    refine s_vR (fun r7 => ?_)
    refine s_aload_n O 0 rfl rfl dX3_takesEnd_18 ?_
    refine x_get O (ci := 3) (T := TX3) (N := 8) in_X3 rfl 1 (by decide) q338 (fun _ h => h) dX3_takesEnd_19 (fun v0 => ?_)
    refine s_vI (fun u8 => ?_)
    refine s_dr (fun p9 hp10 => ?_)
    subst hp10
    refine x_bald O dX3_takesEnd_22 (fun u11 => ?_)
    refine s_bipush O (x := 59) (by decide) dX3_takesEnd_23 ?_
    refine s_icmp_eq O (tgt := 30) dX3_takesEnd_25 (by decide) ?_ ?_
    · refine s_aload_n O 0 rfl rfl dX3_takesEnd_30 ?_
      refine s_dup O rfl dX3_takesEnd_31 ?_
      refine x_get O (ci := 3) (T := TX3) (N := 8) in_X3 rfl 1 (by decide) q338 (fun _ h => h) dX3_takesEnd_32 (fun v0 => ?_)
      refine s_vI (fun u12 => ?_)
      refine s_iconst O (x := 1) (by decide) dX3_takesEnd_35 ?_
      refine s_iadd O dX3_takesEnd_36 ?_
      refine x_put O (ci := 3) (T := TX3) (N := 8) (ty := .int) in_X3 tyX3 tyX3_ok nmX3 rfl 1 (by decide) q338 (fun _ h => h) rfl (by decide +kernel) rfl rfl dX3_takesEnd_37 (fun s13 => ?_)
      refine s_iconst O (x := 1) (by decide) dX3_takesEnd_40 ?_
      exact s_zreturnK O hr rfl rfl dX3_takesEnd_41
    · refine s_iconst O (x := 0) (by decide) dX3_takesEnd_28 ?_
      exact s_zreturnK O hr rfl rfl dX3_takesEnd_29
theorem mt_X3_takesEnd (l : Launch) (G : XG) (hfl : l.stackTraces = false) (hg : G.2.2.2.2 = zAll G.1.1 G.1.2.2.2 G.2.2.2.1) (o : Nat) (s t : XS) (v : Int32) (h : x3_takesEnd o s = some (v, t)) : xMet l yX3_takesEnd (ws_ yX3_takesEnd cX3_takesEnd 1 (some .boolean)) 1 20 G (xI s) [.ref o] (eI v) (xI t) :=
  xMet_of (E := xI) (enc := eI) (by decide +kernel) (Nat.le_of_ble_eq_true rfl) (fun X hl hG O hr hm => by subst hl; subst hG; exact wk_X3_takesEnd O hfl hg hr hm o s) h
theorem hd_X3_rowRead : yX3_rowRead.cls ≠ "java/lang/invoke/MethodHandle" ∧ yX3_rowRead.cls ≠ "java/lang/invoke/VarHandle" ∧ (parseMethodDescriptor yX3_rowRead.desc).map (fun d => d.parameters.length) = some 0 := by decide +kernel
theorem hv_X3_rowRead : yX3_rowRead.cls = RX3 ∧ yX3_rowRead.cls ≠ "java/lang/invoke/MethodHandle" ∧ yX3_rowRead.cls ≠ "java/lang/invoke/VarHandle" ∧ (parseMethodDescriptor yX3_rowRead.desc).map (fun d => d.parameters.length) = some 0 := ⟨rfl, hd_X3_rowRead⟩
theorem hu_X3_rowRead : yX3_rowRead.name ≠ "<init>" ∧ (parseMethodDescriptor yX3_rowRead.desc).map (fun d => d.parameters.length) = some 0 := ⟨by decide +kernel, hd_X3_rowRead.2.2⟩
set_option maxHeartbeats 4000000 in
set_option maxRecDepth 100000 in
theorem wk_X3_rowRead {X : XC} (O : XOk X cX3_rowRead RX3 6 133) (hfl : (xL X).stackTraces = false) (hg : (xG X).2.2.2.2 = zAll (xG X).1.1 (xG X).1.2.2.2 (xG X).2.2.2.1) (hr : (xMeth X).sig.returnType = none) (hm : (xC X).maxLocals = 3) (hout : ∀ x ∈ (xC X).exceptionTable.toList, False) (o : Nat) (s : XS) : Sim X xI (retCT X eU 4 xI) 0 [(0, .ref o)] [] s (x3_rowRead o s) := by
  have hzz := O.hst
  rw [hg] at hzz
  unfold x3_rowRead
  refine s_while (A := Unit) (B := (Int32) ⊕ ((Unit) ⊕ (Nat))) (La := fun _ => [(0, .ref o)]) (We := fun bb0 s18 => match bb0 with | .inl b0 => xWX X 19 [(1, .int b0)] [] ((xI) s18) | .inr (.inl b0) => xWX X 56 [] [] ((xI) s18) | .inr (.inr b0) => ∀ (pc9 : Nat) (L9 : List (Nat × Value)) (rest9 : List Value), xVX X pc9 L9 rest9 ((xI) s18) b0 4) rfl rfl ?_ ?_
  · intro Cl hn he a0 s1
    unfold x3_rowRead_s0
    refine s_aload_n O 0 rfl rfl dX3_rowRead_0 ?_
    refine x_callV O (enc2 := eI) (ci := 3) (av := []) (rest := []) 0 (fun v0 t0 h0 => mt_X3_next (xL X) (xG X) hfl hg o _ t0 v0 h0) (lw_V q375 q377 qs6 q137 q378) hv_X3_next ⟨Nat.le_of_ble_eq_true rfl, Nat.le_of_ble_eq_true rfl⟩ rfl rfl (Nat.le_of_ble_eq_true rfl) dX3_rowRead_1 (fun v2 s3 => ?_)
    refine s_istore_n O (L' := [(1, .int v2), (0, .ref o)]) hm (by decide) rfl rfl dX3_rowRead_4 ?_
    refine s_aload_n O 1 rfl rfl dX3_rowRead_5 ?_
    refine x_callVT O (enc2 := eI) (ci := 3) (cj := 4) (av := []) (rest := []) 0 (fun v0 t0 h0 => mt_X3_number (xL X) (xG X) hfl hg o _ t0 v0 h0) (lw_V q594 q596 qs9 q137 q597) hv_X3_number ⟨Nat.le_of_ble_eq_true rfl, Nat.le_of_ble_eq_true rfl⟩ rfl rfl (Nat.le_of_ble_eq_true rfl) dX3_rowRead_6 (fun v4 s5 => ?_) (fun p16 s17 => ?_)
    · refine s_istore_n O (L' := [(2, .int v4), (1, .int v2), (0, .ref o)]) hm (by decide) rfl rfl dX3_rowRead_9 ?_
      refine s_aload_n O 2 rfl rfl dX3_rowRead_10 ?_
      refine x_get O (ci := 3) (T := TX3) (N := 8) in_X3 rfl 6 (by decide) q343 (fun _ h => h) dX3_rowRead_11 (fun v0 => ?_)
      refine s_vI (fun u6 => ?_)
      refine s_bipush O (x := 13) (by decide) dX3_rowRead_14 ?_
      refine s_icmp_ne O (tgt := 29) dX3_rowRead_16 (by decide) ?_ ?_
      · refine s_aload_n O 2 rfl rfl dX3_rowRead_29 ?_
        refine x_get O (ci := 3) (T := TX3) (N := 8) in_X3 rfl 5 (by decide) q342 (fun _ h => h) dX3_rowRead_30 (fun v0 => ?_)
        refine s_vR (fun r7 => ?_)
        refine s_aload_n O 2 rfl rfl dX3_rowRead_33 ?_
        refine x_get O (ci := 3) (T := TX3) (N := 8) in_X3 rfl 6 (by decide) q343 (fun _ h => h) dX3_rowRead_34 (fun v0 => ?_)
        refine s_vI (fun u8 => ?_)
        refine s_iload_n O 0 rfl rfl dX3_rowRead_37 ?_
        refine s_dr (fun p9 hp10 => ?_)
        subst hp10
        refine x_iast O dX3_rowRead_38 (fun s11 => ?_)
        refine s_aload_n O 2 rfl rfl dX3_rowRead_39 ?_
        refine s_dup O rfl dX3_rowRead_40 ?_
        refine x_get O (ci := 3) (T := TX3) (N := 8) in_X3 rfl 6 (by decide) q343 (fun _ h => h) dX3_rowRead_41 (fun v0 => ?_)
        refine s_vI (fun u12 => ?_)
        refine s_iconst O (x := 1) (by decide) dX3_rowRead_44 ?_
        refine s_iadd O dX3_rowRead_45 ?_
        refine x_put O (ci := 3) (T := TX3) (N := 8) (ty := .int) in_X3 tyX3 tyX3_ok nmX3 rfl 6 (by decide) q343 (fun _ h => h) rfl (by decide +kernel) rfl rfl dX3_rowRead_46 (fun s13 => ?_)
        refine s_aload_n O 2 rfl rfl dX3_rowRead_49 ?_
        refine x_callV O (enc2 := eI) (ci := 3) (av := []) (rest := []) 0 (fun v0 t0 h0 => mt_X3_takesEnd (xL X) (xG X) hfl hg o _ t0 v0 h0) (lw_V q677 q679 qs13 q137 q680) hv_X3_takesEnd ⟨Nat.le_of_ble_eq_true rfl, Nat.le_of_ble_eq_true rfl⟩ rfl rfl (Nat.le_of_ble_eq_true rfl) dX3_rowRead_50 (fun v14 s15 => ?_)
        refine s_if_eq O (tgt := 0) dX3_rowRead_53 (by decide) ?_ ?_
        · refine Sim.sub (L' := [(0, .ref o)]) [2] rfl ?_
          exact Sim.ret (hn _ _)
        · refine Sim.sub (L' := []) [] rfl ?_
          exact Sim.ret (he _ _)
      · refine Sim.sub (L' := [(1, .int v2)]) [1] rfl ?_
        exact Sim.ret (he _ _)
    · exact SimX.ret (fun hc0 => he _ _ hc0 _ _ _)
  · intro bb0 s18
    rcases bb0 with b0 | b0 | b0
    · show Sim X (xI) (retCT X eU 4 xI) 19 [(1, .int b0)] [] s18 _
      dsimp only
      refine x_new O (ci := 4) (T := TX4) (N := 8) (fs := dfX4) in_X4 tyX4 tyX4_ok rfl 8 q608 q609 q150 rfl dfX4_ok dX3_rowRead_19 (fun p19 s20 => ?_)
      refine s_dup O rfl dX3_rowRead_22 ?_
      refine s_iconst O (x := 3) (by decide) dX3_rowRead_23 ?_
      refine s_iload_n O 0 rfl rfl dX3_rowRead_24 ?_
      refine x_callI O (enc2 := eU) (av := [.int 3, .int b0]) (rest := [.ref p19]) 2 (fun v0 t0 h0 => mt_X4_init (xL X) (xG X) hfl hg p19 3 b0 _ t0 v0 h0) q648 q150 q646 q647 rfl hd_X4_init ⟨Nat.le_of_ble_eq_true rfl, Nat.le_of_ble_eq_true rfl⟩ rfl (Nat.le_of_ble_eq_true rfl) dX3_rowRead_25 (fun v21 s22 => ?_)
      refine x_athrow O (ci := 4) rfl dX3_rowRead_28 ?_
      exact sx_out O hout
    · show Sim X (xI) (retCT X eU 4 xI) 56 [] [] s18 _
      dsimp only
      exact s_returnT O hr rfl dX3_rowRead_56
    · dsimp only
      intro v9 t9 hr9 hc9 pc9 L9 rest9
      exact sx_out O hout v9 t9 hr9 hc9
theorem mt_X3_rowRead (l : Launch) (G : XG) (hfl : l.stackTraces = false) (hg : G.2.2.2.2 = zAll G.1.1 G.1.2.2.2 G.2.2.2.1) (o : Nat) (s t : XS) (v : (Unit) ⊕ Nat) (h : x3_rowRead o s = some (v, t)) : xMetT l yX3_rowRead (ws_ yX3_rowRead cX3_rowRead 3 none) 6 133 G (xI s) [.ref o] eU 4 v (xI t) :=
  xMetT_of (E := xI) (enc := eU) (by decide +kernel) (Nat.le_of_ble_eq_true rfl) (fun X hl hG O hr hm hout => by subst hl; subst hG; exact wk_X3_rowRead O hfl hg hr hm hout o s) h
theorem hd_J2_size : yJ2_size.cls ≠ "java/lang/invoke/MethodHandle" ∧ yJ2_size.cls ≠ "java/lang/invoke/VarHandle" ∧ (parseMethodDescriptor yJ2_size.desc).map (fun d => d.parameters.length) = some 0 := by decide +kernel
theorem hv_J2_size : yJ2_size.cls = RJ2 ∧ yJ2_size.cls ≠ "java/lang/invoke/MethodHandle" ∧ yJ2_size.cls ≠ "java/lang/invoke/VarHandle" ∧ (parseMethodDescriptor yJ2_size.desc).map (fun d => d.parameters.length) = some 0 := ⟨rfl, hd_J2_size⟩
theorem hu_J2_size : yJ2_size.name ≠ "<init>" ∧ (parseMethodDescriptor yJ2_size.desc).map (fun d => d.parameters.length) = some 0 := ⟨by decide +kernel, hd_J2_size.2.2⟩
theorem hf_J2_size : (⟨"java/util/List", "size", "()I"⟩ : MethodName).cls ≠ "java/lang/invoke/MethodHandle" ∧ (⟨"java/util/List", "size", "()I"⟩ : MethodName).cls ≠ "java/lang/invoke/VarHandle" ∧ (parseMethodDescriptor (⟨"java/util/List", "size", "()I"⟩ : MethodName).desc).map (fun d => d.parameters.length) = some 0 := by decide +kernel
set_option maxHeartbeats 4000000 in
set_option maxRecDepth 100000 in
theorem wk_J2_size {X : XC} (O : XOk X cJ2_size RJ2 0 0) (hfl : (xL X).stackTraces = false) (hg : (xG X).2.2.2.2 = zAll (xG X).1.1 (xG X).1.2.2.2 (xG X).2.2.2.1) (hr : (xMeth X).sig.returnType = (some .int)) (hm : (xC X).maxLocals = 1) (o : Nat) (s : XS) : Sim X xI (retC X eI xI) 0 [(0, .ref o)] [] s (j2_size o s) := by
  have hzz := O.hst
  rw [hg] at hzz
  unfold j2_size
  refine s_aload_n O 0 rfl rfl dJ2_size_0 ?_
  refine x_get O (ci := 7) (T := TJ2) (N := 3) in_J2 rfl 2 (by decide) q191 (fun _ h => h) dJ2_size_1 (fun v0 => ?_)
  refine s_vI (fun u1 => ?_)
  exact s_ireturn O hr rfl dJ2_size_4
theorem mt_J2_size (l : Launch) (G : XG) (hfl : l.stackTraces = false) (hg : G.2.2.2.2 = zAll G.1.1 G.1.2.2.2 G.2.2.2.1) (o : Nat) (s t : XS) (v : Int32) (h : j2_size o s = some (v, t)) : xMet l yJ2_size (ws_ yJ2_size cJ2_size 1 (some .int)) 0 0 G (xI s) [.ref o] (eI v) (xI t) :=
  xMet_of (E := xI) (enc := eI) (by decide +kernel) (Nat.le_of_ble_eq_true rfl) (fun X hl hG O hr hm => by subst hl; subst hG; exact wk_J2_size O hfl hg hr hm o s) h
theorem hd_X5_init : yX5_init.cls ≠ "java/lang/invoke/MethodHandle" ∧ yX5_init.cls ≠ "java/lang/invoke/VarHandle" ∧ (parseMethodDescriptor yX5_init.desc).map (fun d => d.parameters.length) = some 1 := by decide +kernel
theorem hv_X5_init : yX5_init.cls = RX5 ∧ yX5_init.cls ≠ "java/lang/invoke/MethodHandle" ∧ yX5_init.cls ≠ "java/lang/invoke/VarHandle" ∧ (parseMethodDescriptor yX5_init.desc).map (fun d => d.parameters.length) = some 1 := ⟨rfl, hd_X5_init⟩
set_option maxHeartbeats 4000000 in
set_option maxRecDepth 100000 in
theorem wk_X5_init {X : XC} (O : XOk X cX5_init RX5 1 20) (hfl : (xL X).stackTraces = false) (hg : (xG X).2.2.2.2 = zAll (xG X).1.1 (xG X).1.2.2.2 (xG X).2.2.2.1) (hr : (xMeth X).sig.returnType = none) (hm : (xC X).maxLocals = 3) (hinit : (xMeth X).name = "<init>") (o : Nat) (x1 : Nat) (s : XS) : Sim X xI (retC X eU xI) 0 [(0, .ref o), (1, .ref x1)] [] s (x5_init o x1 s) := by
  have hzz := O.hst
  rw [hg] at hzz
  unfold x5_init
  refine s_aload_n O 0 rfl rfl dX5_init_0 ?_
  refine x_objInit O q705 q163 q164 ⟨Nat.le_of_ble_eq_true rfl, Nat.le_of_ble_eq_true rfl⟩ (Nat.le_of_ble_eq_true rfl) dX5_init_1 ?_
  refine s_aload_n O 0 rfl rfl dX5_init_4 ?_
  refine s_iconst O (x := 4) (by decide) dX5_init_5 ?_
  refine x_newI O q204 dX5_init_6 (fun p1 s2 => ?_)
  refine x_putF O (ci := 5) (T := TX5) (N := 2) (ty := (.array .int)) in_X5 tyX5 tyX5_ok nmX5 rfl 0 (by decide) q706 (fun _ h => h) rfl hinit rfl (by decide +kernel) rfl rfl dX5_init_8 (fun s3 => ?_)
  refine s_iconst O (x := 0) (by decide) dX5_init_11 ?_
  refine s_istore_n O (L' := [(2, .int 0), (0, .ref o), (1, .ref x1)]) hm (by decide) rfl rfl dX5_init_12 ?_
  refine Sim.sub (L' := [(0, .ref o), (1, .ref x1), (2, .int 0)]) [1, 2, 0] rfl ?_
  refine s_while (A := Int32) (B := Unit) (La := fun a13 => [(0, .ref o), (1, .ref x1), (2, .int a13)]) (We := fun b13 s14 => xWX X 46 [] [] ((xI) s14)) rfl rfl ?_ ?_
  · intro Cl hn he a13 s4
    unfold x5_init_s13
    refine s_iload_n O 2 rfl rfl dX5_init_13 ?_
    refine s_aload_n O 1 rfl rfl dX5_init_14 ?_
    refine x_alen O dX5_init_15 (fun u5 => ?_)
    refine s_icmp_ge O (tgt := 46) dX5_init_16 (by decide) ?_ ?_
    · refine Sim.sub (L' := []) [] rfl ?_
      exact Sim.ret (he _ _)
    · refine s_aload_n O 0 rfl rfl dX5_init_19 ?_
      refine x_get O (ci := 5) (T := TX5) (N := 2) in_X5 rfl 0 (by decide) q706 (fun _ h => h) dX5_init_20 (fun v0 => ?_)
      refine s_vR (fun r6 => ?_)
      refine s_iload_n O 2 rfl rfl dX5_init_23 ?_
      refine s_aload_n O 1 rfl rfl dX5_init_24 ?_
      refine s_iload_n O 2 rfl rfl dX5_init_25 ?_
      refine x_iald O dX5_init_26 (fun u7 => ?_)
      refine s_dr (fun p8 hp9 => ?_)
      subst hp9
      refine x_iast O dX5_init_27 (fun s10 => ?_)
      refine s_aload_n O 0 rfl rfl dX5_init_28 ?_
      refine s_dup O rfl dX5_init_29 ?_
      refine x_get O (ci := 5) (T := TX5) (N := 2) in_X5 rfl 1 (by decide) q709 (fun _ h => h) dX5_init_30 (fun v0 => ?_)
      refine s_vI (fun u11 => ?_)
      refine s_aload_n O 1 rfl rfl dX5_init_33 ?_
      refine s_iload_n O 2 rfl rfl dX5_init_34 ?_
      refine x_iald O dX5_init_35 (fun u12 => ?_)
      refine s_iadd O dX5_init_36 ?_
      refine x_put O (ci := 5) (T := TX5) (N := 2) (ty := .int) in_X5 tyX5 tyX5_ok nmX5 rfl 1 (by decide) q709 (fun _ h => h) rfl (by decide +kernel) rfl rfl dX5_init_37 (fun s13 => ?_)
      refine s_iinc O (y := (a13 + 1)) (L' := [(2, .int (a13 + 1)), (0, .ref o), (1, .ref x1)]) 2 rfl hm (by decide) rfl rfl dX5_init_40 ?_
      refine s_goto O (tgt := 13) dX5_init_43 (by decide) ?_
      refine Sim.sub (L' := [(0, .ref o), (1, .ref x1), (2, .int (a13 + 1))]) [1, 2, 0] rfl ?_
      exact Sim.ret (hn _ _)
  · intro b13 s14
    show Sim X (xI) (retC X eU xI) 46 [] [] s14 _
    exact s_return O hr rfl dX5_init_46
theorem mt_X5_init (l : Launch) (G : XG) (hfl : l.stackTraces = false) (hg : G.2.2.2.2 = zAll G.1.1 G.1.2.2.2 G.2.2.2.1) (o : Nat) (x1 : Nat) (s t : XS) (v : Unit) (h : x5_init o x1 s = some (v, t)) : xMet l yX5_init (ws_ yX5_init cX5_init 3 none) 1 20 G (xI s) [.ref o, .ref x1] (eU v) (xI t) :=
  xMet_ofN rfl (E := xI) (enc := eU) (by decide +kernel) (Nat.le_of_ble_eq_true rfl) (fun X hl hG O hr hm hinit => by subst hl; subst hG; exact wk_X5_init O hfl hg hr hm hinit o x1 s) h
theorem hd_J9_copyOf_3 : yJ9_copyOf_3.cls ≠ "java/lang/invoke/MethodHandle" ∧ yJ9_copyOf_3.cls ≠ "java/lang/invoke/VarHandle" ∧ (parseMethodDescriptor yJ9_copyOf_3.desc).map (fun d => d.parameters.length) = some 3 := by decide +kernel
theorem hv_J9_copyOf_3 : yJ9_copyOf_3.cls = RJ9 ∧ yJ9_copyOf_3.cls ≠ "java/lang/invoke/MethodHandle" ∧ yJ9_copyOf_3.cls ≠ "java/lang/invoke/VarHandle" ∧ (parseMethodDescriptor yJ9_copyOf_3.desc).map (fun d => d.parameters.length) = some 3 := ⟨rfl, hd_J9_copyOf_3⟩
theorem hu_J9_copyOf_3 : yJ9_copyOf_3.name ≠ "<init>" ∧ (parseMethodDescriptor yJ9_copyOf_3.desc).map (fun d => d.parameters.length) = some 3 := ⟨by decide +kernel, hd_J9_copyOf_3.2.2⟩
set_option maxHeartbeats 4000000 in
set_option maxRecDepth 100000 in
theorem wk_J9_copyOf_3 {X : XC} (O : XOk X cJ9_copyOf_3 RJ9 1 60) (hfl : (xL X).stackTraces = false) (hg : (xG X).2.2.2.2 = zAll (xG X).1.1 (xG X).1.2.2.2 (xG X).2.2.2.1) (hr : (xMeth X).sig.returnType = (some (.array (.object "java/lang/Object")))) (hm : (xC X).maxLocals = 4) (x0 : Nat) (x1 : Int32) (x2 : Nat) (s : XS) : Sim X xI (retC X eR xI) 0 [(0, .ref x0), (1, .int x1), (2, .ref x2)] [] s (j9_copyOf_3 x0 x1 x2 s) := by
  have hzz := O.hst
  rw [hg] at hzz
  unfold j9_copyOf_3
  have hj24 : ∀ (k0_24 : Nat) (s4 : XS), Sim X (xI) (retC X eR xI) 24 [(0, .ref x0), (1, .int x1)] [.ref k0_24] s4 (j9_copyOf_3_j24 x0 x1 k0_24 s4) := by
    intro k0_24 s4
    unfold j9_copyOf_3_j24
    refine s_astore_n O (L' := [(3, .ref k0_24), (0, .ref x0), (1, .int x1)]) hm (by decide) rfl rfl dJ9_copyOf_3_24 ?_
    refine s_aload_n O 1 rfl rfl dJ9_copyOf_3_25 ?_
    refine s_iconst O (x := 0) (by decide) dJ9_copyOf_3_26 ?_
    refine s_aload_n O 0 rfl rfl dJ9_copyOf_3_27 ?_
    refine s_iconst O (x := 0) (by decide) dJ9_copyOf_3_28 ?_
    refine s_aload_n O 1 rfl rfl dJ9_copyOf_3_29 ?_
    refine x_alen O dJ9_copyOf_3_30 (fun u5 => ?_)
    refine s_iload_n O 2 rfl rfl dJ9_copyOf_3_31 ?_
    refine s_callP O (enc2 := eI) (av := [.int u5, .int x1]) (rest := [.int 0, .ref k0_24, .int 0, .ref x0]) 2 (fun v0 h0 => mt_J8_min (xL X) (xG X) _ u5 x1 v0 h0) (lw_S q454 q455 q143 q456) hd_J8_min ⟨Nat.le_of_ble_eq_true rfl, Nat.le_of_ble_eq_true rfl⟩ rfl (Nat.le_of_ble_eq_true rfl) dJ9_copyOf_3_32 (fun v6 => ?_)
    refine x_acR O (zcast4 hzz) q457 q459 q458 q145 ⟨Nat.le_of_ble_eq_true rfl, by decide⟩ (Nat.le_of_ble_eq_true rfl) dJ9_copyOf_3_35 (fun s8 => ?_)
    refine s_aload_n O 0 rfl rfl dJ9_copyOf_3_38 ?_
    exact s_areturnQ O (r := (some k0_24)) hr (Or.inr ⟨_, rfl⟩) rfl dJ9_copyOf_3_39
  refine s_aload_n O 2 rfl rfl dJ9_copyOf_3_0 ?_
  refine x_ldcM O hzz q761 dJ9_copyOf_3_1 ?_
  refine s_nmQ (fun r1 => ?_)
  refine s_acmp_ne O (rx := (some x2)) (ry := r1) (tgt := 13) dJ9_copyOf_3_3 (by decide) ?_ ?_
  · exact Sim.none
  · refine s_iload_n O 1 rfl rfl dJ9_copyOf_3_6 ?_
    refine x_newR O (t := 4) rfl q763 (zo_0 hzz) dJ9_copyOf_3_7 (fun p2 s3 => ?_)
    refine s_goto O (tgt := 24) dJ9_copyOf_3_10 (by decide) ?_
    refine Sim.sub (L' := [(0, .ref x0), (1, .int x1)]) [0, 1] rfl ?_
    exact hj24 p2 _
theorem mt_J9_copyOf_3 (l : Launch) (G : XG) (hfl : l.stackTraces = false) (hg : G.2.2.2.2 = zAll G.1.1 G.1.2.2.2 G.2.2.2.1) (x0 : Nat) (x1 : Int32) (x2 : Nat) (s t : XS) (v : Option Nat) (h : j9_copyOf_3 x0 x1 x2 s = some (v, t)) : xMet l yJ9_copyOf_3 (ws_ yJ9_copyOf_3 cJ9_copyOf_3 4 (some (.array (.object "java/lang/Object")))) 1 60 G (xI s) [.ref x0, .int x1, .ref x2] (eR v) (xI t) :=
  xMet_of (E := xI) (enc := eR) (by decide +kernel) (Nat.le_of_ble_eq_true rfl) (fun X hl hG O hr hm => by subst hl; subst hG; exact wk_J9_copyOf_3 O hfl hg hr hm x0 x1 x2 s) h
theorem hd_J9_copyOf_2 : yJ9_copyOf_2.cls ≠ "java/lang/invoke/MethodHandle" ∧ yJ9_copyOf_2.cls ≠ "java/lang/invoke/VarHandle" ∧ (parseMethodDescriptor yJ9_copyOf_2.desc).map (fun d => d.parameters.length) = some 2 := by decide +kernel
theorem hv_J9_copyOf_2 : yJ9_copyOf_2.cls = RJ9 ∧ yJ9_copyOf_2.cls ≠ "java/lang/invoke/MethodHandle" ∧ yJ9_copyOf_2.cls ≠ "java/lang/invoke/VarHandle" ∧ (parseMethodDescriptor yJ9_copyOf_2.desc).map (fun d => d.parameters.length) = some 2 := ⟨rfl, hd_J9_copyOf_2⟩
theorem hu_J9_copyOf_2 : yJ9_copyOf_2.name ≠ "<init>" ∧ (parseMethodDescriptor yJ9_copyOf_2.desc).map (fun d => d.parameters.length) = some 2 := ⟨by decide +kernel, hd_J9_copyOf_2.2.2⟩
set_option maxHeartbeats 4000000 in
set_option maxRecDepth 100000 in
theorem wk_J9_copyOf_2 {X : XC} (O : XOk X cJ9_copyOf_2 RJ9 2 83) (hfl : (xL X).stackTraces = false) (hg : (xG X).2.2.2.2 = zAll (xG X).1.1 (xG X).1.2.2.2 (xG X).2.2.2.1) (hr : (xMeth X).sig.returnType = (some (.array (.object "java/lang/Object")))) (hm : (xC X).maxLocals = 2) (x0 : Nat) (x1 : Int32) (s : XS) : Sim X xI (retC X eR xI) 0 [(0, .ref x0), (1, .int x1)] [] s (j9_copyOf_2 x0 x1 s) := by
  have hzz := O.hst
  rw [hg] at hzz
  unfold j9_copyOf_2
  refine s_aload_n O 0 rfl rfl dJ9_copyOf_2_0 ?_
  refine s_iload_n O 1 rfl rfl dJ9_copyOf_2_1 ?_
  refine s_aload_n O 0 rfl rfl dJ9_copyOf_2_2 ?_
  refine x_getC O hzz q742 ⟨Nat.le_of_ble_eq_true rfl, Nat.le_of_ble_eq_true rfl⟩ (Nat.le_of_ble_eq_true rfl) dJ9_copyOf_2_3 (fun _ => ?_)
  refine s_nmQ (fun r1 => ?_)
  refine s_dr (fun p2 hp3 => ?_)
  subst hp3
  refine x_callS O (enc2 := eR) (av := [.ref x0, .int x1, .ref p2]) (rest := []) 3 (fun v0 t0 h0 => mt_J9_copyOf_3 (xL X) (xG X) hfl hg x0 x1 p2 _ t0 v0 h0) (lw_S q758 q759 q144 q760) hd_J9_copyOf_3 ⟨Nat.le_of_ble_eq_true rfl, Nat.le_of_ble_eq_true rfl⟩ rfl (Nat.le_of_ble_eq_true rfl) dJ9_copyOf_2_6 (fun r4 s5 => ?_)
  exact s_areturnQ O (r := r4) hr (Or.inr ⟨_, rfl⟩) rfl dJ9_copyOf_2_9
theorem mt_J9_copyOf_2 (l : Launch) (G : XG) (hfl : l.stackTraces = false) (hg : G.2.2.2.2 = zAll G.1.1 G.1.2.2.2 G.2.2.2.1) (x0 : Nat) (x1 : Int32) (s t : XS) (v : Option Nat) (h : j9_copyOf_2 x0 x1 s = some (v, t)) : xMet l yJ9_copyOf_2 (ws_ yJ9_copyOf_2 cJ9_copyOf_2 2 (some (.array (.object "java/lang/Object")))) 2 83 G (xI s) [.ref x0, .int x1] (eR v) (xI t) :=
  xMet_of (E := xI) (enc := eR) (by decide +kernel) (Nat.le_of_ble_eq_true rfl) (fun X hl hG O hr hm => by subst hl; subst hG; exact wk_J9_copyOf_2 O hfl hg hr hm x0 x1 s) h
theorem hd_J2_grow_2 : yJ2_grow_2.cls ≠ "java/lang/invoke/MethodHandle" ∧ yJ2_grow_2.cls ≠ "java/lang/invoke/VarHandle" ∧ (parseMethodDescriptor yJ2_grow_2.desc).map (fun d => d.parameters.length) = some 1 := by decide +kernel
theorem hv_J2_grow_2 : yJ2_grow_2.cls = RJ2 ∧ yJ2_grow_2.cls ≠ "java/lang/invoke/MethodHandle" ∧ yJ2_grow_2.cls ≠ "java/lang/invoke/VarHandle" ∧ (parseMethodDescriptor yJ2_grow_2.desc).map (fun d => d.parameters.length) = some 1 := ⟨rfl, hd_J2_grow_2⟩
theorem hu_J2_grow_2 : yJ2_grow_2.name ≠ "<init>" ∧ (parseMethodDescriptor yJ2_grow_2.desc).map (fun d => d.parameters.length) = some 1 := ⟨by decide +kernel, hd_J2_grow_2.2.2⟩
set_option maxHeartbeats 4000000 in
set_option maxRecDepth 100000 in
theorem wk_J2_grow_2 {X : XC} (O : XOk X cJ2_grow_2 RJ2 3 104) (hfl : (xL X).stackTraces = false) (hg : (xG X).2.2.2.2 = zAll (xG X).1.1 (xG X).1.2.2.2 (xG X).2.2.2.1) (hr : (xMeth X).sig.returnType = (some (.array (.object "java/lang/Object")))) (hm : (xC X).maxLocals = 4) (o : Nat) (x1 : Int32) (s : XS) : Sim X xI (retC X eR xI) 0 [(0, .ref o), (1, .int x1)] [] s (j2_grow_2 o x1 s) := by
  have hzz := O.hst
  rw [hg] at hzz
  unfold j2_grow_2
  have hj20 : ∀ (x2_20 : Int32) (s5 : XS), Sim X (xI) (retC X eR xI) 20 [(0, .ref o), (1, .int x1), (2, .int x2_20)] [] s5 (j2_grow_2_j20 o x1 x2_20 s5) := by
    intro x2_20 s5
    unfold j2_grow_2_j20
    refine s_iload_n O 2 rfl rfl dJ2_grow_2_20 ?_
    refine s_iload_n O 1 rfl rfl dJ2_grow_2_21 ?_
    refine s_iload_n O 2 rfl rfl dJ2_grow_2_22 ?_
    refine s_isub O dJ2_grow_2_23 ?_
    refine s_iload_n O 2 rfl rfl dJ2_grow_2_24 ?_
    refine s_iconst O (x := 1) (by decide) dJ2_grow_2_25 ?_
    refine s_ishr O dJ2_grow_2_26 ?_
    refine x_callS O (enc2 := eI) (av := [.int x2_20, .int (x1 - x2_20), .int (x2_20 >>> ((1 : Int32) &&& 31))]) (rest := []) 3 (fun v0 t0 h0 => mt_J7_newLength (xL X) (xG X) hfl hg x2_20 (x1 - x2_20) (x2_20 >>> ((1 : Int32) &&& 31)) _ t0 v0 h0) (lw_S q738 q434 q142 q435) hd_J7_newLength ⟨Nat.le_of_ble_eq_true rfl, Nat.le_of_ble_eq_true rfl⟩ rfl (Nat.le_of_ble_eq_true rfl) dJ2_grow_2_27 (fun v6 s7 => ?_)
    refine s_istore_n O (L' := [(3, .int v6), (0, .ref o), (1, .int x1), (2, .int x2_20)]) hm (by decide) rfl rfl dJ2_grow_2_30 ?_
    refine s_aload_n O 1 rfl rfl dJ2_grow_2_31 ?_
    refine s_aload_n O 1 rfl rfl dJ2_grow_2_32 ?_
    refine x_get O (ci := 7) (T := TJ2) (N := 3) in_J2 rfl 1 (by decide) q188 (fun _ h => h) dJ2_grow_2_33 (fun v0 => ?_)
    refine s_vR (fun r8 => ?_)
    refine s_iload_n O 0 rfl rfl dJ2_grow_2_36 ?_
    refine s_dr (fun p9 hp10 => ?_)
    subst hp10
    refine x_callS O (enc2 := eR) (av := [.ref p9, .int v6]) (rest := [.ref o]) 2 (fun v0 t0 h0 => mt_J9_copyOf_2 (xL X) (xG X) hfl hg p9 v6 _ t0 v0 h0) (lw_S q739 q740 q144 q741) hd_J9_copyOf_2 ⟨Nat.le_of_ble_eq_true rfl, Nat.le_of_ble_eq_true rfl⟩ rfl (Nat.le_of_ble_eq_true rfl) dJ2_grow_2_37 (fun r11 s12 => ?_)
    refine s_dup_x1 O (va_cat _) rfl dJ2_grow_2_40 ?_
    refine x_put O (ci := 7) (T := TJ2) (N := 3) (ty := (.array (.object "java/lang/Object"))) in_J2 tyJ2 tyJ2_ok nmJ2 rfl 1 (by decide) q188 (fun _ h => h) rfl (by decide +kernel) (nmA _ _) (ftA _ _) dJ2_grow_2_41 (fun s13 => ?_)
    exact s_areturnQ O (r := r11) hr (Or.inr ⟨_, rfl⟩) rfl dJ2_grow_2_44
  refine s_aload_n O 0 rfl rfl dJ2_grow_2_0 ?_
  refine x_get O (ci := 7) (T := TJ2) (N := 3) in_J2 rfl 1 (by decide) q188 (fun _ h => h) dJ2_grow_2_1 (fun v0 => ?_)
  refine s_vR (fun r1 => ?_)
  refine s_dr (fun p2 hp3 => ?_)
  subst hp3
  refine x_alen O dJ2_grow_2_4 (fun u4 => ?_)
  refine s_istore_n O (L' := [(2, .int u4), (0, .ref o), (1, .int x1)]) hm (by decide) rfl rfl dJ2_grow_2_5 ?_
  refine s_iload_n O 0 rfl rfl dJ2_grow_2_6 ?_
  refine s_if_gt O (tgt := 20) dJ2_grow_2_7 (by decide) ?_ ?_
  · refine Sim.sub (L' := [(0, .ref o), (1, .int x1), (2, .int u4)]) [1, 2, 0] rfl ?_
    exact hj20 u4 _
  · refine s_aload_n O 1 rfl rfl dJ2_grow_2_10 ?_
    refine x_get O (ci := 7) (T := TJ2) (N := 3) in_J2 rfl 1 (by decide) q188 (fun _ h => h) dJ2_grow_2_11 (fun v0 => ?_)
    refine s_vR (fun r14 => ?_)
    refine x_getst O (j := 2) (zs_2 hzz) q186 (fun _ h => h) dJ2_grow_2_14 ?_
    refine s_nmQ (fun r15 => ?_)
    refine s_acmp_eq O (rx := r14) (ry := r15) (tgt := 45) dJ2_grow_2_17 (by decide) ?_ ?_
    · refine s_aload_n O 1 rfl rfl dJ2_grow_2_45 ?_
      refine s_bipush O (x := 10) (by decide) dJ2_grow_2_46 ?_
      refine s_iload_n O 2 rfl rfl dJ2_grow_2_48 ?_
      refine s_callP O (enc2 := eI) (av := [.int 10, .int x1]) (rest := [.ref o]) 2 (fun v0 h0 => mt_J8_max (xL X) (xG X) _ 10 x1 v0 h0) (lw_S q764 q437 q143 q438) hd_J8_max ⟨Nat.le_of_ble_eq_true rfl, Nat.le_of_ble_eq_true rfl⟩ rfl (Nat.le_of_ble_eq_true rfl) dJ2_grow_2_49 (fun v16 => ?_)
      refine x_newR O (t := 4) rfl q765 (zo_0 hzz) dJ2_grow_2_52 (fun p18 s19 => ?_)
      refine s_dup_x1 O rfl rfl dJ2_grow_2_55 ?_
      refine x_put O (ci := 7) (T := TJ2) (N := 3) (ty := (.array (.object "java/lang/Object"))) in_J2 tyJ2 tyJ2_ok nmJ2 rfl 1 (by decide) q188 (fun _ h => h) rfl (by decide +kernel) rfl rfl dJ2_grow_2_56 (fun s20 => ?_)
      exact s_areturnQ O (r := (some p18)) hr (Or.inr ⟨_, rfl⟩) rfl dJ2_grow_2_59
    · refine Sim.sub (L' := [(0, .ref o), (1, .int x1), (2, .int u4)]) [1, 2, 0] rfl ?_
      exact hj20 u4 _
theorem mt_J2_grow_2 (l : Launch) (G : XG) (hfl : l.stackTraces = false) (hg : G.2.2.2.2 = zAll G.1.1 G.1.2.2.2 G.2.2.2.1) (o : Nat) (x1 : Int32) (s t : XS) (v : Option Nat) (h : j2_grow_2 o x1 s = some (v, t)) : xMet l yJ2_grow_2 (ws_ yJ2_grow_2 cJ2_grow_2 4 (some (.array (.object "java/lang/Object")))) 3 104 G (xI s) [.ref o, .int x1] (eR v) (xI t) :=
  xMet_of (E := xI) (enc := eR) (by decide +kernel) (Nat.le_of_ble_eq_true rfl) (fun X hl hG O hr hm => by subst hl; subst hG; exact wk_J2_grow_2 O hfl hg hr hm o x1 s) h
theorem hd_J2_grow : yJ2_grow.cls ≠ "java/lang/invoke/MethodHandle" ∧ yJ2_grow.cls ≠ "java/lang/invoke/VarHandle" ∧ (parseMethodDescriptor yJ2_grow.desc).map (fun d => d.parameters.length) = some 0 := by decide +kernel
theorem hv_J2_grow : yJ2_grow.cls = RJ2 ∧ yJ2_grow.cls ≠ "java/lang/invoke/MethodHandle" ∧ yJ2_grow.cls ≠ "java/lang/invoke/VarHandle" ∧ (parseMethodDescriptor yJ2_grow.desc).map (fun d => d.parameters.length) = some 0 := ⟨rfl, hd_J2_grow⟩
theorem hu_J2_grow : yJ2_grow.name ≠ "<init>" ∧ (parseMethodDescriptor yJ2_grow.desc).map (fun d => d.parameters.length) = some 0 := ⟨by decide +kernel, hd_J2_grow.2.2⟩
set_option maxHeartbeats 4000000 in
set_option maxRecDepth 100000 in
theorem wk_J2_grow {X : XC} (O : XOk X cJ2_grow RJ2 4 127) (hfl : (xL X).stackTraces = false) (hg : (xG X).2.2.2.2 = zAll (xG X).1.1 (xG X).1.2.2.2 (xG X).2.2.2.1) (hr : (xMeth X).sig.returnType = (some (.array (.object "java/lang/Object")))) (hm : (xC X).maxLocals = 1) (o : Nat) (s : XS) : Sim X xI (retC X eR xI) 0 [(0, .ref o)] [] s (j2_grow o s) := by
  have hzz := O.hst
  rw [hg] at hzz
  unfold j2_grow
  refine s_aload_n O 0 rfl rfl dJ2_grow_0 ?_
  refine s_aload_n O 0 rfl rfl dJ2_grow_1 ?_
  refine x_get O (ci := 7) (T := TJ2) (N := 3) in_J2 rfl 2 (by decide) q191 (fun _ h => h) dJ2_grow_2 (fun v0 => ?_)
  refine s_vI (fun u1 => ?_)
  refine s_iconst O (x := 1) (by decide) dJ2_grow_5 ?_
  refine s_iadd O dJ2_grow_6 ?_
  refine x_callV O (enc2 := eR) (ci := 7) (av := [.int (u1 + 1)]) (rest := []) 1 (fun v0 t0 h0 => mt_J2_grow_2 (xL X) (xG X) hfl hg o (u1 + 1) _ t0 v0 h0) (lw_V q734 q736 qs18 q135 q737) hv_J2_grow_2 ⟨Nat.le_of_ble_eq_true rfl, Nat.le_of_ble_eq_true rfl⟩ rfl rfl (Nat.le_of_ble_eq_true rfl) dJ2_grow_7 (fun r2 s3 => ?_)
  exact s_areturnQ O (r := r2) hr (Or.inr ⟨_, rfl⟩) rfl dJ2_grow_10
theorem mt_J2_grow (l : Launch) (G : XG) (hfl : l.stackTraces = false) (hg : G.2.2.2.2 = zAll G.1.1 G.1.2.2.2 G.2.2.2.1) (o : Nat) (s t : XS) (v : Option Nat) (h : j2_grow o s = some (v, t)) : xMet l yJ2_grow (ws_ yJ2_grow cJ2_grow 1 (some (.array (.object "java/lang/Object")))) 4 127 G (xI s) [.ref o] (eR v) (xI t) :=
  xMet_of (E := xI) (enc := eR) (by decide +kernel) (Nat.le_of_ble_eq_true rfl) (fun X hl hG O hr hm => by subst hl; subst hG; exact wk_J2_grow O hfl hg hr hm o s) h
theorem hd_J2_add_2 : yJ2_add_2.cls ≠ "java/lang/invoke/MethodHandle" ∧ yJ2_add_2.cls ≠ "java/lang/invoke/VarHandle" ∧ (parseMethodDescriptor yJ2_add_2.desc).map (fun d => d.parameters.length) = some 3 := by decide +kernel
theorem hv_J2_add_2 : yJ2_add_2.cls = RJ2 ∧ yJ2_add_2.cls ≠ "java/lang/invoke/MethodHandle" ∧ yJ2_add_2.cls ≠ "java/lang/invoke/VarHandle" ∧ (parseMethodDescriptor yJ2_add_2.desc).map (fun d => d.parameters.length) = some 3 := ⟨rfl, hd_J2_add_2⟩
theorem hu_J2_add_2 : yJ2_add_2.name ≠ "<init>" ∧ (parseMethodDescriptor yJ2_add_2.desc).map (fun d => d.parameters.length) = some 3 := ⟨by decide +kernel, hd_J2_add_2.2.2⟩
set_option maxHeartbeats 4000000 in
set_option maxRecDepth 100000 in
theorem wk_J2_add_2 {X : XC} (O : XOk X cJ2_add_2 RJ2 5 147) (hfl : (xL X).stackTraces = false) (hg : (xG X).2.2.2.2 = zAll (xG X).1.1 (xG X).1.2.2.2 (xG X).2.2.2.1) (hr : (xMeth X).sig.returnType = none) (hm : (xC X).maxLocals = 4) (o : Nat) (x1 : Nat) (x2 : Nat) (x3 : Int32) (s : XS) : Sim X xI (retC X eU xI) 0 [(0, .ref o), (1, .ref x1), (2, .ref x2), (3, .int x3)] [] s (j2_add_2 o x1 x2 x3 s) := by
  have hzz := O.hst
  rw [hg] at hzz
  unfold j2_add_2
  have hj11 : ∀ (x2_11 : Option Nat) (s2 : XS), Sim X (xI) (retC X eU xI) 11 [(0, .ref o), (1, .ref x1), (2, va_rf x2_11), (3, .int x3)] [] s2 (j2_add_2_j11 o x1 x3 x2_11 s2) := by
    intro x2_11 s2
    unfold j2_add_2_j11
    refine s_aload_nQ O 2 rfl rfl dJ2_add_2_11 ?_
    refine s_iload_n O 3 rfl rfl dJ2_add_2_12 ?_
    refine s_aload_n O 1 rfl rfl dJ2_add_2_13 ?_
    refine s_dr (fun p3 hp4 => ?_)
    subst hp4
    refine x_aast O (t := 4) (r := (some x1)) rfl (zcast4 hzz) dJ2_add_2_14 (fun s5 => ?_)
    refine s_aload_n O 0 rfl rfl dJ2_add_2_15 ?_
    refine s_iload_n O 3 rfl rfl dJ2_add_2_16 ?_
    refine s_iconst O (x := 1) (by decide) dJ2_add_2_17 ?_
    refine s_iadd O dJ2_add_2_18 ?_
    refine x_put O (ci := 7) (T := TJ2) (N := 3) (ty := .int) in_J2 tyJ2 tyJ2_ok nmJ2 rfl 2 (by decide) q191 (fun _ h => h) rfl (by decide +kernel) rfl rfl dJ2_add_2_19 (fun s6 => ?_)
    exact s_return O hr rfl dJ2_add_2_22
  refine s_iload_n O 3 rfl rfl dJ2_add_2_0 ?_
  refine s_aload_n O 2 rfl rfl dJ2_add_2_1 ?_
  refine x_alen O dJ2_add_2_2 (fun u1 => ?_)
  refine s_icmp_ne O (tgt := 11) dJ2_add_2_3 (by decide) ?_ ?_
  · refine Sim.sub (L' := [(0, .ref o), (1, .ref x1), (2, va_rf (some x2)), (3, .int x3)]) [0, 1, 2, 3] rfl ?_
    exact hj11 (some x2) _
  · refine s_aload_n O 0 rfl rfl dJ2_add_2_6 ?_
    refine x_callV O (enc2 := eR) (ci := 7) (av := []) (rest := []) 0 (fun v0 t0 h0 => mt_J2_grow (xL X) (xG X) hfl hg o _ t0 v0 h0) (lw_V q730 q732 qs17 q135 q733) hv_J2_grow ⟨Nat.le_of_ble_eq_true rfl, Nat.le_of_ble_eq_true rfl⟩ rfl rfl (Nat.le_of_ble_eq_true rfl) dJ2_add_2_7 (fun r7 s8 => ?_)
    refine s_astore_nQ O (r := r7) (L' := [(0, .ref o), (1, .ref x1), (3, .int x3)]) rfl hm (by decide) (fun _ => rfl) dJ2_add_2_10 ?_
    refine Sim.sub (L' := [(0, .ref o), (1, .ref x1), (2, va_rf r7), (3, .int x3)]) [1, 2, 0, 3] rfl ?_
    exact hj11 r7 _
theorem mt_J2_add_2 (l : Launch) (G : XG) (hfl : l.stackTraces = false) (hg : G.2.2.2.2 = zAll G.1.1 G.1.2.2.2 G.2.2.2.1) (o : Nat) (x1 : Nat) (x2 : Nat) (x3 : Int32) (s t : XS) (v : Unit) (h : j2_add_2 o x1 x2 x3 s = some (v, t)) : xMet l yJ2_add_2 (ws_ yJ2_add_2 cJ2_add_2 4 none) 5 147 G (xI s) [.ref o, .ref x1, .ref x2, .int x3] (eU v) (xI t) :=
  xMet_of (E := xI) (enc := eU) (by decide +kernel) (Nat.le_of_ble_eq_true rfl) (fun X hl hG O hr hm => by subst hl; subst hG; exact wk_J2_add_2 O hfl hg hr hm o x1 x2 x3 s) h
theorem hd_J2_add : yJ2_add.cls ≠ "java/lang/invoke/MethodHandle" ∧ yJ2_add.cls ≠ "java/lang/invoke/VarHandle" ∧ (parseMethodDescriptor yJ2_add.desc).map (fun d => d.parameters.length) = some 1 := by decide +kernel
theorem hv_J2_add : yJ2_add.cls = RJ2 ∧ yJ2_add.cls ≠ "java/lang/invoke/MethodHandle" ∧ yJ2_add.cls ≠ "java/lang/invoke/VarHandle" ∧ (parseMethodDescriptor yJ2_add.desc).map (fun d => d.parameters.length) = some 1 := ⟨rfl, hd_J2_add⟩
theorem hu_J2_add : yJ2_add.name ≠ "<init>" ∧ (parseMethodDescriptor yJ2_add.desc).map (fun d => d.parameters.length) = some 1 := ⟨by decide +kernel, hd_J2_add.2.2⟩
theorem hf_J2_add : (⟨"java/util/List", "add", "(Ljava/lang/Object;)Z"⟩ : MethodName).cls ≠ "java/lang/invoke/MethodHandle" ∧ (⟨"java/util/List", "add", "(Ljava/lang/Object;)Z"⟩ : MethodName).cls ≠ "java/lang/invoke/VarHandle" ∧ (parseMethodDescriptor (⟨"java/util/List", "add", "(Ljava/lang/Object;)Z"⟩ : MethodName).desc).map (fun d => d.parameters.length) = some 1 := by decide +kernel
set_option maxHeartbeats 4000000 in
set_option maxRecDepth 100000 in
theorem wk_J2_add {X : XC} (O : XOk X cJ2_add RJ2 6 170) (hfl : (xL X).stackTraces = false) (hg : (xG X).2.2.2.2 = zAll (xG X).1.1 (xG X).1.2.2.2 (xG X).2.2.2.1) (hr : (xMeth X).sig.returnType = (some .boolean)) (hm : (xC X).maxLocals = 2) (o : Nat) (x1 : Nat) (s : XS) : Sim X xI (retC X eI xI) 0 [(0, .ref o), (1, .ref x1)] [] s (j2_add o x1 s) := by
  have hzz := O.hst
  rw [hg] at hzz
  unfold j2_add
  refine s_aload_n O 0 rfl rfl dJ2_add_0 ?_
  refine s_dup O rfl dJ2_add_1 ?_
  refine x_get O (ci := 7) (T := TJ2) (N := 3) in_J2 rfl 0 (by decide) q195 (u_same (O.hts _ q194)) dJ2_add_2 (fun v0 => ?_)
  refine s_vI (fun u1 => ?_)
  refine s_iconst O (x := 1) (by decide) dJ2_add_5 ?_
  refine s_iadd O dJ2_add_6 ?_
  refine x_put O (ci := 7) (T := TJ2) (N := 3) (ty := .int) in_J2 tyJ2 tyJ2_ok nmJ2 rfl 0 (by decide) q195 (u_same (O.hts _ q194)) rfl (by decide +kernel) rfl rfl dJ2_add_7 (fun s2 => ?_)
  refine s_aload_n O 0 rfl rfl dJ2_add_10 ?_
  refine s_aload_n O 1 rfl rfl dJ2_add_11 ?_
  refine s_aload_n O 0 rfl rfl dJ2_add_12 ?_
  refine x_get O (ci := 7) (T := TJ2) (N := 3) in_J2 rfl 1 (by decide) q188 (fun _ h => h) dJ2_add_13 (fun v0 => ?_)
  refine s_vR (fun r3 => ?_)
  refine s_aload_n O 0 rfl rfl dJ2_add_16 ?_
  refine x_get O (ci := 7) (T := TJ2) (N := 3) in_J2 rfl 2 (by decide) q191 (fun _ h => h) dJ2_add_17 (fun v0 => ?_)
  refine s_vI (fun u4 => ?_)
  refine s_dr (fun p5 hp6 => ?_)
  subst hp6
  refine x_callV O (enc2 := eU) (ci := 7) (av := [.ref x1, .ref p5, .int u4]) (rest := []) 3 (fun v0 t0 h0 => mt_J2_add_2 (xL X) (xG X) hfl hg o x1 p5 u4 _ t0 v0 h0) (lw_V q726 q728 qs16 q135 q729) hv_J2_add_2 ⟨Nat.le_of_ble_eq_true rfl, Nat.le_of_ble_eq_true rfl⟩ rfl rfl (Nat.le_of_ble_eq_true rfl) dJ2_add_20 (fun v7 s8 => ?_)
  refine s_iconst O (x := 1) (by decide) dJ2_add_23 ?_
  exact s_zreturnK O hr rfl rfl dJ2_add_24
theorem mt_J2_add (l : Launch) (G : XG) (hfl : l.stackTraces = false) (hg : G.2.2.2.2 = zAll G.1.1 G.1.2.2.2 G.2.2.2.1) (o : Nat) (x1 : Nat) (s t : XS) (v : Int32) (h : j2_add o x1 s = some (v, t)) : xMet l yJ2_add (ws_ yJ2_add cJ2_add 2 (some .boolean)) 6 170 G (xI s) [.ref o, .ref x1] (eI v) (xI t) :=
  xMet_of (E := xI) (enc := eI) (by decide +kernel) (Nat.le_of_ble_eq_true rfl) (fun X hl hG O hr hm => by subst hl; subst hG; exact wk_J2_add O hfl hg hr hm o x1 s) h
theorem hd_X3_monoRead : yX3_monoRead.cls ≠ "java/lang/invoke/MethodHandle" ∧ yX3_monoRead.cls ≠ "java/lang/invoke/VarHandle" ∧ (parseMethodDescriptor yX3_monoRead.desc).map (fun d => d.parameters.length) = some 0 := by decide +kernel
theorem hv_X3_monoRead : yX3_monoRead.cls = RX3 ∧ yX3_monoRead.cls ≠ "java/lang/invoke/MethodHandle" ∧ yX3_monoRead.cls ≠ "java/lang/invoke/VarHandle" ∧ (parseMethodDescriptor yX3_monoRead.desc).map (fun d => d.parameters.length) = some 0 := ⟨rfl, hd_X3_monoRead⟩
theorem hu_X3_monoRead : yX3_monoRead.name ≠ "<init>" ∧ (parseMethodDescriptor yX3_monoRead.desc).map (fun d => d.parameters.length) = some 0 := ⟨by decide +kernel, hd_X3_monoRead.2.2⟩
set_option maxHeartbeats 4000000 in
set_option maxRecDepth 100000 in
theorem wk_X3_monoRead {X : XC} (O : XOk X cX3_monoRead RX3 7 191) (hfl : (xL X).stackTraces = false) (hg : (xG X).2.2.2.2 = zAll (xG X).1.1 (xG X).1.2.2.2 (xG X).2.2.2.1) (hr : (xMeth X).sig.returnType = none) (hm : (xC X).maxLocals = 6) (hout : ∀ x ∈ (xC X).exceptionTable.toList, False) (o : Nat) (s : XS) : Sim X xI (retCT X eU 4 xI) 0 [(0, .ref o)] [] s (x3_monoRead o s) := by
  have hzz := O.hst
  rw [hg] at hzz
  unfold x3_monoRead
  refine s_aload_n O 0 rfl rfl dX3_monoRead_0 ?_
  refine x_callV O (enc2 := eI) (ci := 3) (av := []) (rest := []) 0 (fun v0 t0 h0 => mt_X3_next (xL X) (xG X) hfl hg o _ t0 v0 h0) (lw_V q375 q377 qs6 q137 q378) hv_X3_next ⟨Nat.le_of_ble_eq_true rfl, Nat.le_of_ble_eq_true rfl⟩ rfl rfl (Nat.le_of_ble_eq_true rfl) dX3_monoRead_1 (fun v1 s2 => ?_)
  refine s_istore_n O (L' := [(1, .int v1), (0, .ref o)]) hm (by decide) rfl rfl dX3_monoRead_4 ?_
  refine s_iload_n O 0 rfl rfl dX3_monoRead_5 ?_
  refine s_aload_n O 1 rfl rfl dX3_monoRead_6 ?_
  refine x_get O (ci := 3) (T := TX3) (N := 8) in_X3 rfl 2 (by decide) q339 (fun _ h => h) dX3_monoRead_7 (fun v0 => ?_)
  refine s_vI (fun u3 => ?_)
  refine s_icmp_eq O (tgt := 40) dX3_monoRead_10 (by decide) ?_ ?_
  · refine s_aload_n O 1 rfl rfl dX3_monoRead_40 ?_
    refine x_callV O (enc2 := eR) (ci := 3) (av := []) (rest := []) 0 (fun v0 t0 h0 => mt_X3_unlike (xL X) (xG X) hfl hg o _ t0 v0 h0) (lw_V q604 q606 qs11 q137 q607) hv_X3_unlike ⟨Nat.le_of_ble_eq_true rfl, Nat.le_of_ble_eq_true rfl⟩ rfl rfl (Nat.le_of_ble_eq_true rfl) dX3_monoRead_41 (fun r4 s5 => ?_)
    refine s_dr (fun p6 hp7 => ?_)
    subst hp7
    refine x_athrow O (ci := 4) rfl dX3_monoRead_44 ?_
    exact sx_out O hout
  · refine s_aload_n O 1 rfl rfl dX3_monoRead_13 ?_
    refine s_iload_n O 0 rfl rfl dX3_monoRead_14 ?_
    refine x_callV O (enc2 := eI) (ci := 3) (av := [.int v1]) (rest := []) 1 (fun v0 t0 h0 => mt_X3_isLetter (xL X) (xG X) hfl hg o v1 _ t0 v0 h0) (lw_V q379 q381 qs7 q137 q382) hv_X3_isLetter ⟨Nat.le_of_ble_eq_true rfl, Nat.le_of_ble_eq_true rfl⟩ rfl rfl (Nat.le_of_ble_eq_true rfl) dX3_monoRead_15 (fun v8 s9 => ?_)
    refine s_if_eq O (tgt := 40) dX3_monoRead_18 (by decide) ?_ ?_
    · refine s_aload_n O 1 rfl rfl dX3_monoRead_40 ?_
      refine x_callV O (enc2 := eR) (ci := 3) (av := []) (rest := []) 0 (fun v0 t0 h0 => mt_X3_unlike (xL X) (xG X) hfl hg o _ t0 v0 h0) (lw_V q604 q606 qs11 q137 q607) hv_X3_unlike ⟨Nat.le_of_ble_eq_true rfl, Nat.le_of_ble_eq_true rfl⟩ rfl rfl (Nat.le_of_ble_eq_true rfl) dX3_monoRead_41 (fun r10 s11 => ?_)
      refine s_dr (fun p12 hp13 => ?_)
      subst hp13
      refine x_athrow O (ci := 4) rfl dX3_monoRead_44 ?_
      exact sx_out O hout
    · refine s_aload_n O 1 rfl rfl dX3_monoRead_21 ?_
      refine x_get O (ci := 3) (T := TX3) (N := 8) in_X3 rfl 7 (by decide) q344 (fun _ h => h) dX3_monoRead_22 (fun v0 => ?_)
      refine s_vR (fun r14 => ?_)
      refine s_dr (fun p15 hp16 => ?_)
      subst hp16
      refine x_getN O (ci := 0) (T := TX0) (N := 20) in_X0 rfl 0 (by decide) (zf_q231 hzz) (fun _ h => h) dX3_monoRead_25 (fun v0 => ?_)
      refine s_vR (fun r17 => ?_)
      refine s_iload_n O 0 rfl rfl dX3_monoRead_28 ?_
      refine s_dr (fun p18 hp19 => ?_)
      subst hp19
      refine x_bald O dX3_monoRead_29 (fun u20 => ?_)
      refine s_bipush O (x := 97) (by decide) dX3_monoRead_30 ?_
      refine s_aload_n O 1 rfl rfl dX3_monoRead_32 ?_
      refine x_get O (ci := 3) (T := TX3) (N := 8) in_X3 rfl 3 (by decide) q340 (fun _ h => h) dX3_monoRead_33 (fun v0 => ?_)
      refine s_vI (fun u21 => ?_)
      refine s_iadd O dX3_monoRead_36 ?_
      refine s_icmp_lt O (tgt := 45) dX3_monoRead_37 (by decide) ?_ ?_
      · refine s_aload_n O 1 rfl rfl dX3_monoRead_45 ?_
        refine x_get O (ci := 3) (T := TX3) (N := 8) in_X3 rfl 4 (by decide) q341 (fun _ h => h) dX3_monoRead_46 (fun v0 => ?_)
        refine s_vR (fun r22 => ?_)
        refine s_dr (fun p23 hp24 => ?_)
        subst hp24
        refine x_callF O (enc2 := eI) (ci := 7) (av := []) (rest := []) 0 (fun v0 t0 h0 => mt_J2_size (xL X) (xG X) hfl hg p23 _ t0 v0 h0) (lw_F q691 q695 q697 q135 q699) (zw_0 hzz) hf_J2_size ⟨Nat.le_of_ble_eq_true rfl, Nat.le_of_ble_eq_true rfl⟩ rfl rfl (Nat.le_of_ble_eq_true rfl) dX3_monoRead_49 (fun v25 s26 => ?_)
        refine s_bipush O (x := 40) (by decide) dX3_monoRead_54 ?_
        refine s_icmp_ne O (tgt := 69) dX3_monoRead_56 (by decide) ?_ ?_
        · refine s_iconst O (x := 4) (by decide) dX3_monoRead_69 ?_
          refine x_newI O q204 dX3_monoRead_70 (fun p27 s28 => ?_)
          refine s_astore_n O (L' := [(2, .ref p27), (1, .int v1), (0, .ref o)]) hm (by decide) rfl rfl dX3_monoRead_72 ?_
          refine s_iconst O (x := 0) (by decide) dX3_monoRead_73 ?_
          refine s_istore_n O (L' := [(3, .int 0), (2, .ref p27), (1, .int v1), (0, .ref o)]) hm (by decide) rfl rfl dX3_monoRead_74 ?_
          refine Sim.sub (L' := [(0, .ref o), (1, .int v1), (2, .ref p27), (3, .int 0)]) [3, 2, 1, 0] rfl ?_
          refine s_while (A := Int32) (B := (Unit) ⊕ ((Unit) ⊕ ((Unit) ⊕ (Unit)))) (La := fun a75 => [(0, .ref o), (1, .int v1), (2, .ref p27), (3, .int a75)]) (We := fun bb0 s72 => match bb0 with | .inl b75 => xWX X 131 [(0, .ref o)] [] ((xI) s72) | .inr (.inl b75) => xWX X 183 [(0, .ref o)] [] ((xI) s72) | .inr (.inr (.inl b75)) => xWX X 229 [(1, .int v1)] [] ((xI) s72) | .inr (.inr (.inr b75)) => xWX X 242 [(0, .ref o), (2, .ref p27)] [] ((xI) s72)) rfl rfl ?_ ?_
          · intro Cl hn he a75 s29
            unfold x3_monoRead_s75
            have hj209 : ∀ (x3_209 : Int32) (x4_209 : Int32) (x5_209 : Int32) (s55 : XS), Sim X (xI) Cl 209 [(0, .ref o), (1, .int v1), (2, .ref p27), (3, .int x3_209), (4, .int x4_209), (5, .int x5_209)] [] s55 (x3_monoRead_j209 p27 x3_209 x4_209 x5_209 s55) := by
              intro x3_209 x4_209 x5_209 s55
              unfold x3_monoRead_j209
              refine s_aload_n O 2 rfl rfl dX3_monoRead_209 ?_
              refine s_iload O 4 rfl dX3_monoRead_210 ?_
              refine s_dup2 O rfl rfl dX3_monoRead_212 ?_
              refine x_iald O dX3_monoRead_213 (fun u56 => ?_)
              refine s_iload O 5 rfl dX3_monoRead_214 ?_
              refine s_iadd O dX3_monoRead_216 ?_
              refine x_iast O dX3_monoRead_217 (fun s57 => ?_)
              refine s_iload_n O 3 rfl rfl dX3_monoRead_218 ?_
              refine s_iload O 5 rfl dX3_monoRead_219 ?_
              refine s_iadd O dX3_monoRead_221 ?_
              refine s_nmi fun u58 => ?_
              refine s_istore_n O (L' := [(3, .int u58), (0, .ref o), (1, .int v1), (2, .ref p27), (4, .int x4_209), (5, .int x5_209)]) hm (by decide) rfl rfl dX3_monoRead_222 ?_
              refine s_iload_n O 0 rfl rfl dX3_monoRead_223 ?_
              refine s_bipush O (x := 8) (by decide) dX3_monoRead_224 ?_
              refine s_icmp_le O (tgt := 239) dX3_monoRead_226 (by decide) ?_ ?_
              · refine s_goto O (tgt := 75) dX3_monoRead_239 (by decide) ?_
                refine Sim.sub (L' := [(0, .ref o), (1, .int v1), (2, .ref p27), (3, .int u58)]) [1, 2, 3, 0] rfl ?_
                exact Sim.ret (hn _ _)
              · refine Sim.sub (L' := [(1, .int v1)]) [2] rfl ?_
                exact Sim.ret (he _ _)
            have hj176 : ∀ (x3_176 : Int32) (x4_176 : Int32) (k0_176 : Int32) (s51 : XS), Sim X (xI) Cl 176 [(0, .ref o), (1, .int v1), (2, .ref p27), (3, .int x3_176), (4, .int x4_176)] [.int k0_176] s51 (x3_monoRead_j176 o p27 x3_176 x4_176 k0_176 s51) := by
              intro x3_176 x4_176 k0_176 s51
              unfold x3_monoRead_j176
              refine s_istore O (L' := [(5, .int k0_176), (0, .ref o), (1, .int v1), (2, .ref p27), (3, .int x3_176), (4, .int x4_176)]) hm (by decide) rfl dX3_monoRead_176 ?_
              refine s_iload O 0 rfl dX3_monoRead_178 ?_
              refine s_if_ne O (tgt := 188) dX3_monoRead_180 (by decide) ?_ ?_
              · refine s_aload_n O 1 rfl rfl dX3_monoRead_188 ?_
                refine s_aload_n O 1 rfl rfl dX3_monoRead_189 ?_
                refine x_get O (ci := 3) (T := TX3) (N := 8) in_X3 rfl 1 (by decide) q338 (fun _ h => h) dX3_monoRead_190 (fun v0 => ?_)
                refine s_vI (fun u52 => ?_)
                refine x_callV O (enc2 := eI) (ci := 3) (av := [.int u52]) (rest := []) 1 (fun v0 t0 h0 => mt_X3_isDigit (xL X) (xG X) hfl hg o u52 _ t0 v0 h0) (lw_V q598 q600 qs10 q137 q601) hv_X3_isDigit ⟨Nat.le_of_ble_eq_true rfl, Nat.le_of_ble_eq_true rfl⟩ rfl rfl (Nat.le_of_ble_eq_true rfl) dX3_monoRead_193 (fun v53 s54 => ?_)
                refine s_if_eq O (tgt := 209) dX3_monoRead_196 (by decide) ?_ ?_
                · refine Sim.sub (L' := [(0, .ref o), (1, .int v1), (2, .ref p27), (3, .int x3_176), (4, .int x4_176), (5, .int k0_176)]) [1, 2, 3, 4, 5, 0] rfl ?_
                  exact hj209 x3_176 x4_176 k0_176 _
                · refine s_aload_n O 1 rfl rfl dX3_monoRead_199 ?_
                  refine s_dup O rfl dX3_monoRead_200 ?_
                  refine x_get O (ci := 3) (T := TX3) (N := 8) in_X3 rfl 1 (by decide) q338 (fun _ h => h) dX3_monoRead_201 (fun v0 => ?_)
                  refine s_vI (fun u59 => ?_)
                  refine s_iconst O (x := 1) (by decide) dX3_monoRead_204 ?_
                  refine s_iadd O dX3_monoRead_205 ?_
                  refine x_put O (ci := 3) (T := TX3) (N := 8) (ty := .int) in_X3 tyX3 tyX3_ok nmX3 rfl 1 (by decide) q338 (fun _ h => h) rfl (by decide +kernel) rfl rfl dX3_monoRead_206 (fun s60 => ?_)
                  refine Sim.sub (L' := [(0, .ref o), (1, .int v1), (2, .ref p27), (3, .int x3_176), (4, .int x4_176), (5, .int k0_176)]) [1, 2, 3, 4, 5, 0] rfl ?_
                  exact hj209 x3_176 x4_176 k0_176 _
              · refine Sim.sub (L' := [(0, .ref o)]) [1] rfl ?_
                exact Sim.ret (he _ _)
            have hj97 : ∀ (x3_97 : Int32) (s33 : XS), Sim X (xI) Cl 97 [(0, .ref o), (1, .int v1), (2, .ref p27), (3, .int x3_97)] [] s33 (x3_monoRead_j97 o p27 x3_97 s33) := by
              intro x3_97 s33
              unfold x3_monoRead_j97
              refine s_aload_n O 0 rfl rfl dX3_monoRead_97 ?_
              refine x_get O (ci := 3) (T := TX3) (N := 8) in_X3 rfl 7 (by decide) q344 (fun _ h => h) dX3_monoRead_98 (fun v0 => ?_)
              refine s_vR (fun r34 => ?_)
              refine s_dr (fun p35 hp36 => ?_)
              subst hp36
              refine x_getN O (ci := 0) (T := TX0) (N := 20) in_X0 rfl 0 (by decide) (zf_q231 hzz) (fun _ h => h) dX3_monoRead_101 (fun v0 => ?_)
              refine s_vR (fun r37 => ?_)
              refine s_aload_n O 0 rfl rfl dX3_monoRead_104 ?_
              refine x_get O (ci := 3) (T := TX3) (N := 8) in_X3 rfl 1 (by decide) q338 (fun _ h => h) dX3_monoRead_105 (fun v0 => ?_)
              refine s_vI (fun u38 => ?_)
              refine s_dr (fun p39 hp40 => ?_)
              subst hp40
              refine x_bald O dX3_monoRead_108 (fun u41 => ?_)
              refine s_bipush O (x := 97) (by decide) dX3_monoRead_109 ?_
              refine s_isub O dX3_monoRead_111 ?_
              refine s_nmi fun u42 => ?_
              refine s_istore O (L' := [(4, .int u42), (0, .ref o), (1, .int v1), (2, .ref p27), (3, .int x3_97)]) hm (by decide) rfl dX3_monoRead_112 ?_
              refine s_iload O 0 rfl dX3_monoRead_114 ?_
              refine s_i2l O dX3_monoRead_116 ?_
              refine s_lconst O (x := 0) (by decide) dX3_monoRead_117 ?_
              refine s_aload_n O 1 rfl rfl dX3_monoRead_118 ?_
              refine x_get O (ci := 3) (T := TX3) (N := 8) in_X3 rfl 3 (by decide) q340 (fun _ h => h) dX3_monoRead_119 (fun v0 => ?_)
              refine s_vI (fun u43 => ?_)
              refine s_iconst O (x := 1) (by decide) dX3_monoRead_122 ?_
              refine s_isub O dX3_monoRead_123 ?_
              refine s_i2l O dX3_monoRead_124 ?_
              refine s_callPN O (enc2 := eI) (av := [.long u42.toInt64, .long 0, .long ((u43 - 1).toInt64)]) (rest := []) 3 (fun v0 h0 => mt_X0_isIn (xL X) (xG X) _ u42.toInt64 0 ((u43 - 1).toInt64) v0 h0) q319 (zm_q385 hzz) q131 q318 hd_X0_isIn ⟨Nat.le_of_ble_eq_true rfl, Nat.le_of_ble_eq_true rfl⟩ rfl (Nat.le_of_ble_eq_true rfl) dX3_monoRead_125 (fun v44 => ?_)
              refine s_if_ne O (tgt := 136) dX3_monoRead_128 (by decide) ?_ ?_
              · refine s_aload_n O 1 rfl rfl dX3_monoRead_136 ?_
                refine s_dup O rfl dX3_monoRead_137 ?_
                refine x_get O (ci := 3) (T := TX3) (N := 8) in_X3 rfl 1 (by decide) q338 (fun _ h => h) dX3_monoRead_138 (fun v0 => ?_)
                refine s_vI (fun u46 => ?_)
                refine s_iconst O (x := 1) (by decide) dX3_monoRead_141 ?_
                refine s_iadd O dX3_monoRead_142 ?_
                refine x_put O (ci := 3) (T := TX3) (N := 8) (ty := .int) in_X3 tyX3 tyX3_ok nmX3 rfl 1 (by decide) q338 (fun _ h => h) rfl (by decide +kernel) rfl rfl dX3_monoRead_143 (fun s47 => ?_)
                refine s_aload_n O 1 rfl rfl dX3_monoRead_146 ?_
                refine s_aload_n O 1 rfl rfl dX3_monoRead_147 ?_
                refine x_get O (ci := 3) (T := TX3) (N := 8) in_X3 rfl 1 (by decide) q338 (fun _ h => h) dX3_monoRead_148 (fun v0 => ?_)
                refine s_vI (fun u48 => ?_)
                refine x_callV O (enc2 := eI) (ci := 3) (av := [.int u48]) (rest := []) 1 (fun v0 t0 h0 => mt_X3_isDigit (xL X) (xG X) hfl hg o u48 _ t0 v0 h0) (lw_V q598 q600 qs10 q137 q601) hv_X3_isDigit ⟨Nat.le_of_ble_eq_true rfl, Nat.le_of_ble_eq_true rfl⟩ rfl rfl (Nat.le_of_ble_eq_true rfl) dX3_monoRead_151 (fun v49 s50 => ?_)
                refine s_if_eq O (tgt := 175) dX3_monoRead_154 (by decide) ?_ ?_
                · refine s_iconst O (x := 1) (by decide) dX3_monoRead_175 ?_
                  refine Sim.sub (L' := [(0, .ref o), (1, .int v1), (2, .ref p27), (3, .int x3_97), (4, .int u42)]) [1, 2, 3, 4, 0] rfl ?_
                  exact hj176 x3_97 u42 1 _
                · refine s_aload_n O 1 rfl rfl dX3_monoRead_157 ?_
                  refine x_get O (ci := 3) (T := TX3) (N := 8) in_X3 rfl 7 (by decide) q344 (fun _ h => h) dX3_monoRead_158 (fun v0 => ?_)
                  refine s_vR (fun r61 => ?_)
                  refine s_dr (fun p62 hp63 => ?_)
                  subst hp63
                  refine x_getN O (ci := 0) (T := TX0) (N := 20) in_X0 rfl 0 (by decide) (zf_q231 hzz) (fun _ h => h) dX3_monoRead_161 (fun v0 => ?_)
                  refine s_vR (fun r64 => ?_)
                  refine s_aload_n O 1 rfl rfl dX3_monoRead_164 ?_
                  refine x_get O (ci := 3) (T := TX3) (N := 8) in_X3 rfl 1 (by decide) q338 (fun _ h => h) dX3_monoRead_165 (fun v0 => ?_)
                  refine s_vI (fun u65 => ?_)
                  refine s_dr (fun p66 hp67 => ?_)
                  subst hp67
                  refine x_bald O dX3_monoRead_168 (fun u68 => ?_)
                  refine s_bipush O (x := 48) (by decide) dX3_monoRead_169 ?_
                  refine s_isub O dX3_monoRead_171 ?_
                  refine s_goto O (tgt := 176) dX3_monoRead_172 (by decide) ?_
                  refine Sim.sub (L' := [(0, .ref o), (1, .int v1), (2, .ref p27), (3, .int x3_97), (4, .int u42)]) [1, 2, 3, 4, 0] rfl ?_
                  exact hj176 x3_97 u42 (u68 - 48) _
              · refine Sim.sub (L' := [(0, .ref o)]) [1] rfl ?_
                exact Sim.ret (he _ _)
            refine s_aload_n O 0 rfl rfl dX3_monoRead_75 ?_
            refine s_aload_n O 0 rfl rfl dX3_monoRead_76 ?_
            refine x_get O (ci := 3) (T := TX3) (N := 8) in_X3 rfl 1 (by decide) q338 (fun _ h => h) dX3_monoRead_77 (fun v0 => ?_)
            refine s_vI (fun u30 => ?_)
            refine x_callV O (enc2 := eI) (ci := 3) (av := [.int u30]) (rest := []) 1 (fun v0 t0 h0 => mt_X3_isLetter (xL X) (xG X) hfl hg o u30 _ t0 v0 h0) (lw_V q379 q381 qs7 q137 q382) hv_X3_isLetter ⟨Nat.le_of_ble_eq_true rfl, Nat.le_of_ble_eq_true rfl⟩ rfl rfl (Nat.le_of_ble_eq_true rfl) dX3_monoRead_80 (fun v31 s32 => ?_)
            refine s_if_ne O (tgt := 97) dX3_monoRead_83 (by decide) ?_ ?_
            · exact hj97 a75 _
            · refine s_aload_n O 0 rfl rfl dX3_monoRead_86 ?_
              refine s_aload_n O 0 rfl rfl dX3_monoRead_87 ?_
              refine x_get O (ci := 3) (T := TX3) (N := 8) in_X3 rfl 1 (by decide) q338 (fun _ h => h) dX3_monoRead_88 (fun v0 => ?_)
              refine s_vI (fun u69 => ?_)
              refine x_callV O (enc2 := eI) (ci := 3) (av := [.int u69]) (rest := []) 1 (fun v0 t0 h0 => mt_X3_isDigit (xL X) (xG X) hfl hg o u69 _ t0 v0 h0) (lw_V q598 q600 qs10 q137 q601) hv_X3_isDigit ⟨Nat.le_of_ble_eq_true rfl, Nat.le_of_ble_eq_true rfl⟩ rfl rfl (Nat.le_of_ble_eq_true rfl) dX3_monoRead_91 (fun v70 s71 => ?_)
              refine s_if_eq O (tgt := 242) dX3_monoRead_94 (by decide) ?_ ?_
              · refine Sim.sub (L' := [(0, .ref o), (2, .ref p27)]) [0, 2] rfl ?_
                exact Sim.ret (he _ _)
              · exact hj97 a75 _
          · intro bb0 s72
            rcases bb0 with b75 | b75 | b75 | b75
            · show Sim X (xI) (retCT X eU 4 xI) 131 [(0, .ref o)] [] s72 _
              dsimp only
              refine s_aload_n O 0 rfl rfl dX3_monoRead_131 ?_
              refine x_callV O (enc2 := eR) (ci := 3) (av := []) (rest := []) 0 (fun v0 t0 h0 => mt_X3_unlike (xL X) (xG X) hfl hg o _ t0 v0 h0) (lw_V q604 q606 qs11 q137 q607) hv_X3_unlike ⟨Nat.le_of_ble_eq_true rfl, Nat.le_of_ble_eq_true rfl⟩ rfl rfl (Nat.le_of_ble_eq_true rfl) dX3_monoRead_132 (fun r73 s74 => ?_)
              refine s_dr (fun p75 hp76 => ?_)
              subst hp76
              refine x_athrow O (ci := 4) rfl dX3_monoRead_135 ?_
              exact sx_out O hout
            · show Sim X (xI) (retCT X eU 4 xI) 183 [(0, .ref o)] [] s72 _
              dsimp only
              refine s_aload_n O 0 rfl rfl dX3_monoRead_183 ?_
              refine x_callV O (enc2 := eR) (ci := 3) (av := []) (rest := []) 0 (fun v0 t0 h0 => mt_X3_unlike (xL X) (xG X) hfl hg o _ t0 v0 h0) (lw_V q604 q606 qs11 q137 q607) hv_X3_unlike ⟨Nat.le_of_ble_eq_true rfl, Nat.le_of_ble_eq_true rfl⟩ rfl rfl (Nat.le_of_ble_eq_true rfl) dX3_monoRead_184 (fun r77 s78 => ?_)
              refine s_dr (fun p79 hp80 => ?_)
              subst hp80
              refine x_athrow O (ci := 4) rfl dX3_monoRead_187 ?_
              exact sx_out O hout
            · show Sim X (xI) (retCT X eU 4 xI) 229 [(1, .int v1)] [] s72 _
              dsimp only
              refine x_new O (ci := 4) (T := TX4) (N := 8) (fs := dfX4) in_X4 tyX4 tyX4_ok rfl 8 q608 q609 q150 rfl dfX4_ok dX3_monoRead_229 (fun p81 s82 => ?_)
              refine s_dup O rfl dX3_monoRead_232 ?_
              refine s_iconst O (x := 3) (by decide) dX3_monoRead_233 ?_
              refine s_iload_n O 0 rfl rfl dX3_monoRead_234 ?_
              refine x_callI O (enc2 := eU) (av := [.int 3, .int v1]) (rest := [.ref p81]) 2 (fun v0 t0 h0 => mt_X4_init (xL X) (xG X) hfl hg p81 3 v1 _ t0 v0 h0) q648 q150 q646 q647 rfl hd_X4_init ⟨Nat.le_of_ble_eq_true rfl, Nat.le_of_ble_eq_true rfl⟩ rfl (Nat.le_of_ble_eq_true rfl) dX3_monoRead_235 (fun v83 s84 => ?_)
              refine x_athrow O (ci := 4) rfl dX3_monoRead_238 ?_
              exact sx_out O hout
            · show Sim X (xI) (retCT X eU 4 xI) 242 [(0, .ref o), (2, .ref p27)] [] s72 _
              dsimp only
              refine s_aload_n O 0 rfl rfl dX3_monoRead_242 ?_
              refine s_aload_n O 0 rfl rfl dX3_monoRead_243 ?_
              refine x_get O (ci := 3) (T := TX3) (N := 8) in_X3 rfl 1 (by decide) q338 (fun _ h => h) dX3_monoRead_244 (fun v0 => ?_)
              refine s_vI (fun u85 => ?_)
              refine x_put O (ci := 3) (T := TX3) (N := 8) (ty := .int) in_X3 tyX3 tyX3_ok nmX3 rfl 2 (by decide) q339 (fun _ h => h) rfl (by decide +kernel) rfl rfl dX3_monoRead_247 (fun s86 => ?_)
              refine s_aload_n O 0 rfl rfl dX3_monoRead_250 ?_
              refine x_get O (ci := 3) (T := TX3) (N := 8) in_X3 rfl 4 (by decide) q341 (fun _ h => h) dX3_monoRead_251 (fun v0 => ?_)
              refine s_vR (fun r87 => ?_)
              refine x_new O (ci := 5) (T := TX5) (N := 2) (fs := dfX5) in_X5 tyX5 tyX5_ok rfl 2 q700 q701 q151 rfl dfX5_ok dX3_monoRead_254 (fun p88 s89 => ?_)
              refine s_dup O rfl dX3_monoRead_257 ?_
              refine s_aload_n O 1 rfl rfl dX3_monoRead_258 ?_
              refine x_callI O (enc2 := eU) (av := [.ref p27]) (rest := [.ref p88, va_rf r87]) 1 (fun v0 t0 h0 => mt_X5_init (xL X) (xG X) hfl hg p88 p27 _ t0 v0 h0) q704 q151 q702 q703 rfl hd_X5_init ⟨Nat.le_of_ble_eq_true rfl, Nat.le_of_ble_eq_true rfl⟩ rfl (by generalize r87 = zq0; cases zq0 <;> exact Nat.le_of_ble_eq_true rfl) dX3_monoRead_259 (fun v90 s91 => ?_)
              refine s_dr (fun p92 hp93 => ?_)
              subst hp93
              refine x_callF O (enc2 := eI) (ci := 7) (av := [.ref p88]) (rest := []) 1 (fun v0 t0 h0 => mt_J2_add (xL X) (xG X) hfl hg p92 p88 _ t0 v0 h0) (lw_F q718 q721 q723 q135 q725) (zw_1 hzz) hf_J2_add ⟨Nat.le_of_ble_eq_true rfl, Nat.le_of_ble_eq_true rfl⟩ rfl rfl (Nat.le_of_ble_eq_true rfl) dX3_monoRead_262 (fun v94 s95 => ?_)
              refine s_pop O rfl dX3_monoRead_267 ?_
              exact s_returnT O hr rfl dX3_monoRead_268
        · refine x_new O (ci := 4) (T := TX4) (N := 8) (fs := dfX4) in_X4 tyX4 tyX4_ok rfl 8 q608 q609 q150 rfl dfX4_ok dX3_monoRead_59 (fun p96 s97 => ?_)
          refine s_dup O rfl dX3_monoRead_62 ?_
          refine s_iconst O (x := 3) (by decide) dX3_monoRead_63 ?_
          refine s_iload_n O 0 rfl rfl dX3_monoRead_64 ?_
          refine x_callI O (enc2 := eU) (av := [.int 3, .int v1]) (rest := [.ref p96]) 2 (fun v0 t0 h0 => mt_X4_init (xL X) (xG X) hfl hg p96 3 v1 _ t0 v0 h0) q648 q150 q646 q647 rfl hd_X4_init ⟨Nat.le_of_ble_eq_true rfl, Nat.le_of_ble_eq_true rfl⟩ rfl (Nat.le_of_ble_eq_true rfl) dX3_monoRead_65 (fun v98 s99 => ?_)
          refine x_athrow O (ci := 4) rfl dX3_monoRead_68 ?_
          exact sx_out O hout
      · refine s_aload_n O 1 rfl rfl dX3_monoRead_40 ?_
        refine x_callV O (enc2 := eR) (ci := 3) (av := []) (rest := []) 0 (fun v0 t0 h0 => mt_X3_unlike (xL X) (xG X) hfl hg o _ t0 v0 h0) (lw_V q604 q606 qs11 q137 q607) hv_X3_unlike ⟨Nat.le_of_ble_eq_true rfl, Nat.le_of_ble_eq_true rfl⟩ rfl rfl (Nat.le_of_ble_eq_true rfl) dX3_monoRead_41 (fun r100 s101 => ?_)
        refine s_dr (fun p102 hp103 => ?_)
        subst hp103
        refine x_athrow O (ci := 4) rfl dX3_monoRead_44 ?_
        exact sx_out O hout
theorem mt_X3_monoRead (l : Launch) (G : XG) (hfl : l.stackTraces = false) (hg : G.2.2.2.2 = zAll G.1.1 G.1.2.2.2 G.2.2.2.1) (o : Nat) (s t : XS) (v : (Unit) ⊕ Nat) (h : x3_monoRead o s = some (v, t)) : xMetT l yX3_monoRead (ws_ yX3_monoRead cX3_monoRead 6 none) 7 191 G (xI s) [.ref o] eU 4 v (xI t) :=
  xMetT_of (E := xI) (enc := eU) (by decide +kernel) (Nat.le_of_ble_eq_true rfl) (fun X hl hG O hr hm hout => by subst hl; subst hG; exact wk_X3_monoRead O hfl hg hr hm hout o s) h
