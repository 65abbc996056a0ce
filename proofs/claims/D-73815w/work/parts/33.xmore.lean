/-! MORE ROWS: null tests of known references, inherited methods, class objects, clone, switches, defaults of made objects -/
set_option maxRecDepth 100000
theorem q2119 : (Jvm.Cond.selects "[Ljava/lang/Object;" ({ cls := "java/lang/Object", name := "getClass", desc := "()Ljava/lang/Class;" } : Jvm.MethodName) ({ cls := "java/lang/Object", name := "getClass", desc := "()Ljava/lang/Class;" } : Jvm.MethodName)) ∈ lw_all := lw_g (lw_at lw_m9 69 rfl) rfl
theorem q743 : (Jvm.Cond.instanceMethod ({ cls := "java/lang/Object", name := "getClass", desc := "()Ljava/lang/Class;" } : Jvm.MethodName)) ∈ lw_all := lw_g (lw_at lw_m3 133 rfl) rfl
theorem q757 : (Jvm.Cond.native ({ cls := "java/lang/Object", name := "getClass", desc := "()Ljava/lang/Class;" } : Jvm.MethodName)) ∈ lw_all := lw_g (lw_at lw_m3 147 rfl) rfl
theorem q448 : (Jvm.Cond.sameMethod "[B" "java/lang/Object" "clone" "()Ljava/lang/Object;") ∈ lw_all := lw_g (lw_at lw_m2 78 rfl) rfl
theorem q449 : (Jvm.Cond.native ({ cls := "java/lang/Object", name := "clone", desc := "()Ljava/lang/Object;" } : Jvm.MethodName)) ∈ lw_all := lw_g (lw_at lw_m2 79 rfl) rfl
theorem q450 : (Jvm.Cond.instanceMethod ({ cls := "java/lang/Object", name := "clone", desc := "()Ljava/lang/Object;" } : Jvm.MethodName)) ∈ lw_all := lw_g (lw_at lw_m2 80 rfl) rfl
theorem q451 : (Jvm.Cond.selects "[B" ({ cls := "[B", name := "clone", desc := "()Ljava/lang/Object;" } : Jvm.MethodName) ({ cls := "java/lang/Object", name := "clone", desc := "()Ljava/lang/Object;" } : Jvm.MethodName)) ∈ lw_all := lw_g (lw_at lw_m2 81 rfl) rfl
theorem va_cat (r : Option Nat) : (va_rf r).category = 1 := by cases r <;> rfl
section More0
variable {S ρ : Type} {X : XC} {cc : ByteArray} {own : String} {F Lo : Nat} {E : S → XS} {C : ρ → S → Prop} {pc : Nat} {L : List (Nat × Value)} {rest : List Value} {σ : S} {rem : Option (ρ × S)}
theorem s_nmQ {r : Option Nat} {k : Option Nat → Option (ρ × S)} (h : ∀ y, Sim X E C pc L (va_rf y :: rest) σ (k y)) : Sim X E C pc L (va_rf r :: rest) σ (nm r k) := h r
theorem s_ifnull_R (O : XOk X cc own F Lo) {a : Nat} {off : Int} {tgt : Nat} (hd : decode cc pc = .ok (.ifnull off, 3)) (ht : (pc : Int) + off = (tgt : Int)) (k : Sim X E C (pc + 3) L rest σ rem) : Sim X E C pc L (.ref a :: rest) σ rem := fun v t hr hc H locs ls hR hS hl => lv_ifnull O.hx O.hb hd (k v t hr hc H locs ls hR hS hl)
theorem s_ifnull_N (O : XOk X cc own F Lo) {off : Int} {tgt : Nat} (hd : decode cc pc = .ok (.ifnull off, 3)) (ht : (pc : Int) + off = (tgt : Int)) (k : Sim X E C tgt L rest σ rem) : Sim X E C pc L (.null :: rest) σ rem := fun v t hr hc H locs ls hR hS hl => lv_ifnullN O.hx O.hb hd ht (k v t hr hc H locs ls hR hS hl)
theorem s_ifnonnull_R (O : XOk X cc own F Lo) {a : Nat} {off : Int} {tgt : Nat} (hd : decode cc pc = .ok (.ifnonnull off, 3)) (ht : (pc : Int) + off = (tgt : Int)) (k : Sim X E C tgt L rest σ rem) : Sim X E C pc L (.ref a :: rest) σ rem := fun v t hr hc H locs ls hR hS hl => lv_ifnonnull O.hx O.hb hd ht (k v t hr hc H locs ls hR hS hl)
theorem s_ifnonnull_N (O : XOk X cc own F Lo) {off : Int} {tgt : Nat} (hd : decode cc pc = .ok (.ifnonnull off, 3)) (ht : (pc : Int) + off = (tgt : Int)) (k : Sim X E C (pc + 3) L rest σ rem) : Sim X E C pc L (.null :: rest) σ rem := fun v t hr hc H locs ls hR hS hl => lv_ifnonnullN O.hx O.hb hd (k v t hr hc H locs ls hR hS hl)
theorem sx_none {ρ : Type} {X : XC} {E : S → XS} {C : ρ → S → Prop} {pc : Nat} {L : List (Nat × Value)} {rest : List Value} {σ : S} {q ci : Nat} : SimX X E C pc L rest σ q ci (none : Option (ρ × S)) := fun v t hr => by cases hr
end More0
theorem lookup_out {x : Int32} {a b c d : Int} {dflt : Int} (h0 : ¬ x = Int32.ofInt a) (h1 : ¬ x = Int32.ofInt b) : Op.lookupswitch.offset [(a, c), (b, d)] dflt x.toInt = dflt := by
  have e : ∀ z : Int, x.toInt = z → x = Int32.ofInt z := fun z h => by rw [← h]; simp
  unfold Op.lookupswitch.offset
  rw [if_neg fun h => h0 (e _ h.symm)]
  unfold Op.lookupswitch.offset
  rw [if_neg fun h => h1 (e _ h.symm)]
  rfl
theorem lw_F {own : String} {idx : Nat} {C : String} {x y : MethodName} {b : ByteArray} {L : Nat} {r : Option FieldType} (h1 : Cond.methodLink own idx x ∈ lw_all) (h3 : Cond.selects C x y ∈ lw_all) (h2 : Cond.instanceMethod y ∈ lw_all) (h4 : Cond.initialized y.cls ∈ lw_all) (h5 : Cond.code y b L r ∈ lw_all) : GoodIn lw_all (va_wsF own idx C x y (ws_ y b L r)) := by
  refine lw_app ?_ (lw_meth h5)
  intro w hw
  simp only [List.mem_cons, List.not_mem_nil, or_false] at hw
  rcases hw with e | e | e | e
  · rw [e]; exact h1
  · rw [e]; exact h3
  · rw [e]; exact h2
  · rw [e]; exact h4
theorem lw_su {own : String} {idx : Nat} {y : MethodName} {b : ByteArray} {L : Nat} {r : Option FieldType} (h1 : Cond.methodLink own idx y ∈ lw_all) (h2 : Cond.sameMethod y.cls y.cls y.name y.desc ∈ lw_all) (h3 : Cond.superclass own y.cls ∈ lw_all) (h4 : Cond.instanceMethod y ∈ lw_all) (h5 : Cond.initialized y.cls ∈ lw_all) (h6 : Cond.code y b L r ∈ lw_all) : ∀ w ∈ va_wsSU own idx y (ws_ y b L r), w ∈ lw_all := by
  intro w hw
  rcases List.mem_append.mp hw with hw | hw
  · simp only [List.mem_cons, List.not_mem_nil, or_false] at hw
    rcases hw with e | e | e | e | e
    · rw [e]; exact h1
    · rw [e]; exact h2
    · rw [e]; exact h3
    · rw [e]; exact h4
    · rw [e]; exact h5
  · rcases List.mem_cons.mp hw with e | e
    · rw [e]; exact h6
    · exact e
theorem zp_0 {z : Nat} {adr : Nat → Option Nat} {lam : Nat → ClassId} {U : State} {H : Heap} (h : zAll z adr lam U H) : va_Nw (.privateMethod ⟨"java/lang/AbstractStringBuilder", "ensureCapacityInternal", "(I)V"⟩) U := h.2 _ (List.mem_of_getElem? (i := 0) rfl)
theorem zp_1 {z : Nat} {adr : Nat → Option Nat} {lam : Nat → ClassId} {U : State} {H : Heap} (h : zAll z adr lam U H) : va_Nw (.privateMethod ⟨"java/lang/AbstractStringBuilder", "newCapacity", "(I)I"⟩) U := h.2 ⟨"java/lang/AbstractStringBuilder", "newCapacity", "(I)I"⟩ (List.mem_of_getElem? (i := 1) rfl)
/-! the fresh objects' fields -/
def dfX0 : List Value := [.null, .int 0, .null, .null, .int 0, .int 0, .null, .int 0, .int 0, .int 0, .null, .int 0, .null, .int 0, .null, .null, .null, .null, .int 0, .null]
theorem dfX0_ok : ∀ j, j < 20 → defaultValue (tyX0 j) = vp_V dfX0 j := by
  intro j hj
  have h : j = 0 ∨ j = 1 ∨ j = 2 ∨ j = 3 ∨ j = 4 ∨ j = 5 ∨ j = 6 ∨ j = 7 ∨ j = 8 ∨ j = 9 ∨ j = 10 ∨ j = 11 ∨ j = 12 ∨ j = 13 ∨ j = 14 ∨ j = 15 ∨ j = 16 ∨ j = 17 ∨ j = 18 ∨ j = 19 := by omega
  rcases h with rfl | rfl | rfl | rfl | rfl | rfl | rfl | rfl | rfl | rfl | rfl | rfl | rfl | rfl | rfl | rfl | rfl | rfl | rfl | rfl <;> rfl
def dfX1 : List Value := [.int 0, .null, .null, .null, .null, .null]
theorem dfX1_ok : ∀ j, j < 6 → defaultValue (tyX1 j) = vp_V dfX1 j := by
  intro j hj
  have h : j = 0 ∨ j = 1 ∨ j = 2 ∨ j = 3 ∨ j = 4 ∨ j = 5 := by omega
  rcases h with rfl | rfl | rfl | rfl | rfl | rfl <;> rfl
def dfX2 : List Value := [.null, .int 0, .null, .int 0, .int 0, .null, .null, .int 0, .int 0, .int 0, .int 0, .int 0, .int 0, .int 0, .null, .null, .int 0, .null, .null, .null, .null, .null, .null, .null, .int 0, .int 0, .null, .null, .null, .null, .null, .int 0, .int 0]
theorem dfX2_ok : ∀ j, j < 33 → defaultValue (tyX2 j) = vp_V dfX2 j := by
  intro j hj
  have h : j = 0 ∨ j = 1 ∨ j = 2 ∨ j = 3 ∨ j = 4 ∨ j = 5 ∨ j = 6 ∨ j = 7 ∨ j = 8 ∨ j = 9 ∨ j = 10 ∨ j = 11 ∨ j = 12 ∨ j = 13 ∨ j = 14 ∨ j = 15 ∨ j = 16 ∨ j = 17 ∨ j = 18 ∨ j = 19 ∨ j = 20 ∨ j = 21 ∨ j = 22 ∨ j = 23 ∨ j = 24 ∨ j = 25 ∨ j = 26 ∨ j = 27 ∨ j = 28 ∨ j = 29 ∨ j = 30 ∨ j = 31 ∨ j = 32 := by omega
  rcases h with rfl | rfl | rfl | rfl | rfl | rfl | rfl | rfl | rfl | rfl | rfl | rfl | rfl | rfl | rfl | rfl | rfl | rfl | rfl | rfl | rfl | rfl | rfl | rfl | rfl | rfl | rfl | rfl | rfl | rfl | rfl | rfl | rfl <;> rfl
def dfX3 : List Value := [.int 0, .int 0, .int 0, .int 0, .null, .null, .int 0, .null]
theorem dfX3_ok : ∀ j, j < 8 → defaultValue (tyX3 j) = vp_V dfX3 j := by
  intro j hj
  have h : j = 0 ∨ j = 1 ∨ j = 2 ∨ j = 3 ∨ j = 4 ∨ j = 5 ∨ j = 6 ∨ j = 7 := by omega
  rcases h with rfl | rfl | rfl | rfl | rfl | rfl | rfl | rfl <;> rfl
def dfX4 : List Value := [.null, .null, .null, .null, .null, .int 0, .int 0, .int 0]
theorem dfX4_ok : ∀ j, j < 8 → defaultValue (tyX4 j) = vp_V dfX4 j := by
  intro j hj
  have h : j = 0 ∨ j = 1 ∨ j = 2 ∨ j = 3 ∨ j = 4 ∨ j = 5 ∨ j = 6 ∨ j = 7 := by omega
  rcases h with rfl | rfl | rfl | rfl | rfl | rfl | rfl | rfl <;> rfl
def dfX5 : List Value := [.null, .int 0]
theorem dfX5_ok : ∀ j, j < 2 → defaultValue (tyX5 j) = vp_V dfX5 j := by
  intro j hj
  have h : j = 0 ∨ j = 1 := by omega
  rcases h with rfl | rfl <;> rfl
def dfX6 : List Value := [.null, .int 0, .int 0]
theorem dfX6_ok : ∀ j, j < 3 → defaultValue (tyX6 j) = vp_V dfX6 j := by
  intro j hj
  have h : j = 0 ∨ j = 1 ∨ j = 2 := by omega
  rcases h with rfl | rfl | rfl <;> rfl
def dfJ2 : List Value := [.int 0, .null, .int 0]
theorem dfJ2_ok : ∀ j, j < 3 → defaultValue (tyJ2 j) = vp_V dfJ2 j := by
  intro j hj
  have h : j = 0 ∨ j = 1 ∨ j = 2 := by omega
  rcases h with rfl | rfl | rfl <;> rfl
def dfJ14 : List Value := [.int 0, .int 0, .int 0, .null]
theorem dfJ14_ok : ∀ j, j < 4 → defaultValue (tyJ14 j) = vp_V dfJ14 j := by
  intro j hj
  have h : j = 0 ∨ j = 1 ∨ j = 2 ∨ j = 3 := by omega
  rcases h with rfl | rfl | rfl | rfl <;> rfl
def dfJ4 : List Value := [.null, .int 0, .int 0, .int 0]
theorem dfJ4_ok : ∀ j, j < 4 → defaultValue (tyJ4 j) = vp_V dfJ4 j := by
  intro j hj
  have h : j = 0 ∨ j = 1 ∨ j = 2 ∨ j = 3 := by omega
  rcases h with rfl | rfl | rfl | rfl <;> rfl
def dfJ5 : List Value := [.null, .int 0]
theorem dfJ5_ok : ∀ j, j < 2 → defaultValue (tyJ5 j) = vp_V dfJ5 j := by
  intro j hj
  have h : j = 0 ∨ j = 1 := by omega
  rcases h with rfl | rfl <;> rfl
def dfJ17 : List Value := [.null, .null, .null, .null, .int 0, .null]
theorem dfJ17_ok : ∀ j, j < 6 → defaultValue (tyJ17 j) = vp_V dfJ17 j := by
  intro j hj
  have h : j = 0 ∨ j = 1 ∨ j = 2 ∨ j = 3 ∨ j = 4 ∨ j = 5 := by omega
  rcases h with rfl | rfl | rfl | rfl | rfl | rfl <;> rfl
/-- a private method that a subclass's object answers -/
theorem u_selP {G : va_G} {tys : List (ClassId × FieldType)} {s : State} {args : Array Value} {y : MethodName} {ci : Nat} {q : vw_C} (hK : va_K G xcl tys s) (hq : xcl[ci]? = some q) (hp : va_Nw (.privateMethod y) s) (hs : (Cond.sameMethod y.cls y.cls y.name y.desc).before args s = true) (hi : (Cond.instanceMethod y).before args s = true) : (Cond.selects q.1 y y).before args s = true := by
  obtain ⟨c, k, r, hc, hk, hif, hf, hn⟩ := Cond.sameMethod_found hs
  obtain ⟨r0, r1, hn1, hm1, hst1, hrest⟩ := Cond.instanceMethod_spec hi
  obtain ⟨hn2, k2, hk2, hif2⟩ := Cond.sameMethod_spec hc hf hs
  have hn' : s.methodNamed? y = some r := hn
  cases hn1.symm.trans hn'
  have hpr : r1.isPrivate = true := Cond.privateMethod_at hp r r1 hn1 hm1
  have hrc : s.vm.findClass y.cls = some r.cls := findClass_of_methodNamed hn'
  cases hrc.symm.trans hc
  have hcls := (hK.1 ci q hq).2.1
  simp [Cond.before, Cond.holds, Cond.value, hcls, hf, hn', selectMethod_private hm1 hpr, hk2, hif2]
section More1
variable {ρ : Type} {X : XC} {cc : ByteArray} {own : String} {F Lo : Nat} {C : ρ → XS → Prop} {pc : Nat} {L : List (Nat × Value)} {rest : List Value} {σ : XS} {rem : Option (ρ × XS)} {a : Nat}
/-- a method of a class above (x as the code names it, y as the object answers it) -/
theorem x_callU (O : XOk X cc own F Lo) {ρ2 : Type} {enc2 : ρ2 → Option Value} {g : Option (ρ2 × XS)} {k : ρ2 → XS → Option (ρ × XS)} {x y : MethodName} {bytes b0 : ByteArray} {mL index fr lo ci m0 : Nat} {ret r0 : Option FieldType} {av : List Value} {q : vw_C} (n : Nat)
    (hM : ∀ v t, g = some (v, t) → xMet (xL X) y (ws_ y bytes mL ret) fr lo (xG X) (xI σ) (.ref a :: av) (enc2 v) (xI t)) (hcode : Cond.code y bytes mL ret ∈ lw_all) (hcode0 : Cond.code x b0 m0 r0 ∈ lw_all) (hinst0 : Cond.instanceMethod x ∈ lw_all) (hlink : Cond.methodLink own index x ∈ lw_all) (hsame : Cond.sameMethod x.cls x.cls x.name x.desc ∈ lw_all)
    (hsel : (Cond.selects q.1 x y).before (xArgs X) (xS X) = true) (hinst : Cond.instanceMethod y ∈ lw_all) (hini : Cond.initialized y.cls ∈ lw_all) {Rc : String} (hd0 : x.cls = Rc ∧ x.cls ≠ "java/lang/invoke/MethodHandle" ∧ x.cls ≠ "java/lang/invoke/VarHandle" ∧ (parseMethodDescriptor x.desc).map (fun d => d.parameters.length) = some n)
    (hroom : fr + 1 ≤ F ∧ 8 + (mL + 11) + lo ≤ Lo) (hq : xcl[ci]? = some q) (hn : av.length = n) (hrest : (rest.map fun v => v.category).sum ≤ 8) (hd : decode cc pc = .ok (.invokevirtual index, 3))
    (kk : ∀ v t, Sim X xI C (pc + 3) L ((enc2 v).toList ++ rest) t (k v t)) : Sim X xI C pc L (av.reverse ++ .ref a :: rest) σ (xo σ a ci fun _ => bnd g k) := by
  intro v t hr hc
  obtain ⟨fs, ha, hr⟩ := xo_ex hr
  obtain ⟨v2, t2, h1, h2⟩ := bnd_ex hr
  have kk1 := kk v2 t2 v t h2 hc
  intro H locs ls hR hS hl
  refine W.withSlots fun hsl => ?_
  have cw : va_CU (xR X) (xS X) (xArgs X) own q.1 x.cls index x y bytes mL ret (ws_ y bytes mL ret) ({ frames := fr, cells := (xG X).1.2.1 - (xI σ).2.1, slots := (xG X).1.2.2.1 - (xI σ).2.2.1, locals := lo } : Room) ((xG X).1.2.1 - (xI σ).2.1) ((xG X).1.2.2.1 - (xI σ).2.2.1) n :=
    ⟨⟨rfl, rfl, Nat.le_trans hroom.1 O.hF.1, Nat.le_trans hroom.2 O.hF.2, pay_in O.hts (lw_meth hcode), List.mem_cons_self⟩, O.hts _ hcode, O.hts _ hini, ⟨hd0.2.1, hd0.2.2.1⟩, fun sig h => (by have h2 := hd0.2.2.2; rw [h] at h2; exact (Option.some.inj h2).symm), O.hts _ hlink, O.hts _ hsame, va_Decl.of (O.hts _ hinst0) (O.hts _ hcode0), hsel, O.hts _ hinst⟩
  exact xRun_go (va_runU (C := q.1) (As := av) (rest := rest) ⟨O.hx, O.hb, rfl, O.hown, O.hts⟩ (hM v2 t2 h1) cw ⟨xPre.blind, va_recv (tys := []) O.hK.1 (hR.obj ha) hq (q0 := 0) rfl, fun U hU hW => ⟨rfl, O.pre hR hS U hU hW⟩⟩ rfl hn hl.1 rfl (lv_room hrest) hd (O.roomy hR hS hsl)) hR hS hl kk1
/-- a pure method of a nest mate -/
theorem s_callPN (O : XOk X cc own F Lo) {ρ2 : Type} {enc2 : ρ2 → Option Value} {g : Option (ρ2 × Unit)} {k : ρ2 → XS → Option (ρ × XS)} {y : MethodName} {bytes : ByteArray} {mL index fr lo : Nat} {ret : Option FieldType} {av : List Value} {host : String} (n : Nat)
    (hM : ∀ v, g = some (v, ()) → xMet (xL X) y (ws_ y bytes mL ret) fr lo (xG X) (xI σ) av (enc2 v) (xI σ)) (hcode : Cond.code y bytes mL ret ∈ lw_all) (hl : va_Nw (.methodLinkNest own index y host) (xS X)) (hini : Cond.initialized y.cls ∈ lw_all) (hst : Cond.static y ∈ lw_all) (hd0 : y.cls ≠ "java/lang/invoke/MethodHandle" ∧ y.cls ≠ "java/lang/invoke/VarHandle" ∧ (parseMethodDescriptor y.desc).map (fun d => d.parameters.length) = some n)
    (hroom : fr + 1 ≤ F ∧ 8 + (mL + 11) + lo ≤ Lo) (hn : av.length = n) (hrest : (rest.map fun v => v.category).sum ≤ 8) (hd : decode cc pc = .ok (.invokestatic index, 3))
    (kk : ∀ v, Sim X xI C (pc + 3) L ((enc2 v).toList ++ rest) σ (k v σ)) : Sim X xI C pc L (av.reverse ++ rest) σ (bnd (stat g σ) k) := by
  intro v t hr hc
  obtain ⟨v2, t2, h1, h2⟩ := bnd_ex hr
  cases g with
  | none => cases h1
  | some q =>
    cases h1
    have kk1 := kk q.1 v t h2 hc
    intro H locs ls hR hS hl0
    refine W.withSlots fun hsl => ?_
    exact xRun_go (va_runSN (As := av) (rest := rest) ⟨O.hx, O.hb, rfl, O.hown, O.hts⟩ (hM q.1 rfl) ⟨va_cnB n O.hts (lw_meth hcode) rfl rfl rfl hl (O.hts _ hini) hd0 ⟨Nat.le_trans hroom.1 O.hF.1, Nat.le_trans hroom.2 O.hF.2⟩, O.hts _ hst, trivial⟩ ⟨xPre.blind, fun U hU hW => ⟨rfl, O.pre hR hS U hU hW⟩⟩ rfl hn hl0.1 rfl (lv_room hrest) hd (O.roomy hR hS hsl)) hR hS hl0 kk1
/-- a static method of a nest mate that may throw -/
theorem x_callSNT (O : XOk X cc own F Lo) {ρ2 : Type} {enc2 : ρ2 → Option Value} {g : Option ((ρ2 ⊕ Nat) × XS)} {k : ρ2 → XS → Option (ρ × XS)} {kx : Nat → XS → Option (ρ × XS)} {y : MethodName} {bytes : ByteArray} {mL index fr lo cj : Nat} {ret : Option FieldType} {av : List Value} {host : String} (n : Nat)
    (hM : ∀ d t, g = some (d, t) → xMetT (xL X) y (ws_ y bytes mL ret) fr lo (xG X) (xI σ) av enc2 cj d (xI t)) (hcode : Cond.code y bytes mL ret ∈ lw_all) (hl : va_Nw (.methodLinkNest own index y host) (xS X)) (hini : Cond.initialized y.cls ∈ lw_all) (hst : Cond.static y ∈ lw_all) (hd0 : y.cls ≠ "java/lang/invoke/MethodHandle" ∧ y.cls ≠ "java/lang/invoke/VarHandle" ∧ (parseMethodDescriptor y.desc).map (fun d => d.parameters.length) = some n)
    (hroom : fr + 1 ≤ F ∧ 8 + (mL + 11) + lo ≤ Lo) (hn : av.length = n) (hrest : (rest.map fun v => v.category).sum ≤ 8) (hd : decode cc pc = .ok (.invokestatic index, 3))
    (hk : ∀ v t, Sim X xI C (pc + 3) L ((enc2 v).toList ++ rest) t (k v t)) (hx : ∀ z t, SimX X xI C pc L rest t z cj (kx z t)) : Sim X xI C pc L (av.reverse ++ rest) σ (bndT g k kx) := by
  intro v t hr hc H locs ls hR hS hl0
  refine W.withSlots fun hsl => ?_
  obtain ⟨d, t2, h1, h2⟩ : ∃ d t2, g = some (d, t2) ∧ (∀ w, d = .inl w → k w t2 = some (v, t)) ∧ (∀ z, d = .inr z → kx z t2 = some (v, t)) := by
    rcases bndT_ex hr with ⟨w, s, e1, e2⟩ | ⟨z, s, e1, e2⟩
    · exact ⟨_, s, e1, (fun w' h => by cases h; exact e2), (fun z' h => by cases h)⟩
    · exact ⟨_, s, e1, (fun w' h => by cases h), (fun z' h => by cases h; exact e2)⟩
  exact xRunT_go (vx_runSN (As := av) (rest := rest) ⟨O.hx, O.hb, rfl, O.hown, O.hts⟩ (hM d t2 h1) ⟨va_cnB n O.hts (lw_meth hcode) rfl rfl rfl hl (O.hts _ hini) hd0 ⟨Nat.le_trans hroom.1 O.hF.1, Nat.le_trans hroom.2 O.hF.2⟩, O.hts _ hst, trivial⟩ ⟨xPre.blind, fun U hU hW => ⟨rfl, O.pre hR hS U hU hW⟩⟩ rfl hn hl0.1 rfl (lv_room hrest) hd (O.roomy hR hS hsl)) hR hS hl0 (fun w hw => hk w t2 v t (h2.1 w hw) hc) (fun z hz => hx z t2 v t (h2.2 z hz) hc)
def xan {β : Type} (σ : XS) (t a : Nat) (kk : Nat → Option β) : Option β := xarr σ a t fun A => kk A.1
theorem x_ldcM (O : XOk X cc own F Lo) {index : Nat} (hz : zAll (xG X).1.1 (xG X).1.2.2.2 (xG X).2.2.2.1 (xS X) (xS X).heap) (hlink : Cond.classLink own index "[Ljava/lang/Object;" ∈ lw_all) (hd : decode cc pc = .ok (.ldc index, 2)) (kk : Sim X xI C (pc + 2) L (va_rf (σ.1.2.2.2 10) :: rest) σ rem) : Sim X xI C pc L rest σ rem := by
  intro v t hr hc H locs ls hR hS hl
  obtain ⟨b, e1, e2⟩ := zz_mi hz
  have h := kk v t hr hc H locs ls hR hS hl
  have e : σ.1 = (xG X).1 := hR.2.2.1
  rw [e, e1] at h
  exact va_ldcM O.hx O.hb O.hown (O.hts _ hlink) e2 hd h
theorem x_getC (O : XOk X cc own F Lo) {index : Nat} {k : Nat → Option (ρ × XS)} (hz : zAll (xG X).1.1 (xG X).1.2.2.2 (xG X).2.2.2.1 (xS X) (xS X).heap) (hlink : Cond.methodLink own index ⟨"java/lang/Object", "getClass", "()Ljava/lang/Class;"⟩ ∈ lw_all) (hroom : 1 ≤ F ∧ 30 ≤ Lo) (hrest : (rest.map fun v => v.category).sum ≤ 8) (hd : decode cc pc = .ok (.invokevirtual index, 3)) (kk : ∀ n, Sim X xI C (pc + 3) L (va_rf (σ.1.2.2.2 10) :: rest) σ (k n)) : Sim X xI C pc L (.ref a :: rest) σ (xan σ 4 a k) := by
  intro v t hr hc
  obtain ⟨A, h1, h2⟩ := xarr_ex hr
  intro H locs ls hR hS hl
  obtain ⟨b, e1, e2⟩ := zz_mi hz
  have h := kk _ v t h2 hc H locs ls hR hS hl
  have e : σ.1 = (xG X).1 := hR.2.2.1
  rw [e, e1] at h
  have hcl : H[a]? = some (vp_cell ((xG X).2.2.1 4) A) := hR.at h1
  have hnm : (xS X).vm.findClass "[Ljava/lang/Object;" = some ((xG X).2.2.1 4) := va_nmO (O.hK.2 4 _ rfl).2 (by decide)
  refine va_getC O.hx O.hb hl.1.symm O.hown (O.hts _ hlink) (va_Nw.use rfl (hz.1.2.2.2.1 ⟨"java/lang/Object", "getClass", "()Ljava/lang/Class;"⟩ (List.mem_of_getElem? (i := 17) rfl))) (O.hts _ q2119) (O.hts _ q743) (O.hts _ q757) e2 ⟨_, hcl, ?_, ?_⟩ (Nat.le_trans hroom.1 O.hF.1) ?_ hd h
  · obtain ⟨n, f | f | f | f | f⟩ := A <;> rfl
  · obtain ⟨n, f | f | f | f | f⟩ := A <;> exact hnm
  · have := O.hF.2
    omega
end More1
