/-! WHAT IS THROWN: contracts of methods that return or throw; a frame over which something was thrown -/
def xqc {ρ : Type} (G : XG) (n0 : Nat) (enc : ρ → Option Value) (d : ρ ⊕ Nat) (σ' : XS) : Array Value → State → Outcome → State → Prop := match d with
  | .inl v => xQ G n0 (enc v) σ'
  | .inr _ => fun _ _ _ _ => False
def xxc {ρ : Type} (G : XG) (n0 ci : Nat) (d : ρ ⊕ Nat) (σ' : XS) : Addr → String → State → State → Prop := match d with
  | .inl _ => fun _ _ _ _ => False
  | .inr a => fun q E st t => q = a ∧ (∃ r, xcl[ci]? = some r ∧ E = r.1) ∧ (Rep 0 G σ' t.heap ∧ xslots t.heap + (n0 - xslots st.heap) ≤ σ'.2.2.1) ∧ va_F (fun q => G.1.1 ≤ q) st t
def xMetT {ρ : Type} (l : Launch) (y : MethodName) (ws : List Cond) (fr lo : Nat) (G : XG) (σ : XS) (av : List Value) (enc : ρ → Option Value) (ci : Nat) (d : ρ ⊕ Nat) (σ' : XS) : Prop :=
  vx_Met l y ws ({ frames := fr, cells := G.1.2.1 - σ.2.1, slots := G.1.2.2.1 - σ.2.2.1, locals := lo } : Room) (va_Pc av (xPre G σ)) (xqc G σ.2.2.1 enc d σ') (xxc G σ.2.2.1 ci d σ') (G.1.2.1 - σ.2.1) (G.1.2.2.1 - σ.2.2.1) (fun q => G.1.1 ≤ q)
def retCT {S ρ : Type} (X : XC) (enc : ρ → Option Value) (ci : Nat) (E : S → XS) : ρ ⊕ Nat → S → Prop := fun d t =>
  xQQ X = vx_MQ (xBelow X) (xqc (xG X) (xslots (xS X).heap + xD X) enc d (E t)) (xxc (xG X) (xslots (xS X).heap + xD X) ci d (E t)) (xArgs X) (xS X) (xR X).cells (xR X).slots (fun q => (xG X).1.1 ≤ q)
/-- over a frame of this method q was thrown, of the class ci -/
def xVX (X : XC) (pc : Nat) (L : List (Nat × Value)) (rest : List Value) (σ : XS) (q ci : Nat) : Prop :=
  ∀ (H : Heap) (locs : List Loc) (ls : Array Slot), Rep (xD X) (xG X) σ H → va_S (fun q => (xG X).1.1 ≤ q) (xS X).heap H locs → lv_has ls (xC X).maxLocals L →
    (∃ (ce : Cell) (r : vw_C), H[q]? = some ce ∧ ce.vm = .none ∧ xcl[ci]? = some r ∧ (xS X).vm.findClass r.1 = some ce.cls) →
    vx_W (xP X) (xL X) (xEnv X) (xR X) (xS X) (xM X) (xArgs X) (xBelow X) (xMeth X) (xC X) H locs (H.size - (xS X).heap.size) (xslots H - xslots (xS X).heap) (xQQ X) (F0 (xM X) pc ls rest) q
def SimX {S ρ : Type} (X : XC) (E : S → XS) (C : ρ → S → Prop) (pc : Nat) (L : List (Nat × Value)) (rest : List Value) (σ : S) (q ci : Nat) (rem : Option (ρ × S)) : Prop := ∀ (v : ρ) (t : S), rem = some (v, t) → C v t → xVX X pc L rest (E σ) q ci
section Thr
variable {S ρ : Type} {X : XC} {cc : ByteArray} {own : String} {F Lo : Nat} {E : S → XS} {pc : Nat} {L : List (Nat × Value)} {rest : List Value} {σ : S} {enc : ρ → Option Value} {v : ρ} {ci : Nat}
theorem SimX.ret {ρ' : Type} {D : ρ' → S → Prop} {w : ρ'} {q : Nat} (h : D w σ → xVX X pc L rest (E σ) q ci) : SimX X E D pc L rest σ q ci (some (w, σ)) := fun v' t hr hc => by
  cases hr
  exact h hc
theorem vx_tight {p : Program} {l : Launch} {e : Env} {R : Room} {s : State} {m : MethodId} {args : Array Value} {below : List Frame} {meth : Method} {c : Code} {H : Heap} {locs : List Loc} {cells slots : Nat} {Q : State → Prop} {g : JFrame} {q : Addr}
    (h : vx_W p l e R s m args below meth c H locs (H.size - s.heap.size) (xslots H - xslots s.heap) Q g q) : vx_W p l e R s m args below meth c H locs cells slots Q g q := by
  intro T hT X
  refine h T hT { X with same := ?_ }
  subst hT
  obtain ⟨a1, a2, a3, a4, a5, a6⟩ := X.same
  have b2 : s.heap.size ≤ T.heap.size := a2
  have b6 : xslots T.heap = xslots s.heap + ((T.heap.toList.drop s.heap.size).map (fun c => c.slots.size)).sum := xslots_drop b2 fun a c hc => by
    obtain ⟨c', h1, -, h2, -⟩ := a6 a c hc
    exact ⟨c', h1, h2⟩
  refine ⟨a1, a2, ?_, a4, ?_, a6⟩
  · show T.heap.size ≤ s.heap.size + (T.heap.size - s.heap.size)
    omega
  · show ((T.heap.toList.drop s.heap.size).map (fun c => c.slots.size)).sum ≤ _
    omega
theorem s_ireturnT (O : XOk X cc own F Lo) {x : Int32} (hr : (xMeth X).sig.returnType = some .int) (he : enc v = some (.int x)) (hd : decode cc pc = .ok (.ireturn, 1)) : Sim X E (retCT X enc ci E) pc L [.int x] σ (some (.inl v, σ)) := by
  refine Sim.ret fun hC H locs ls hR hS hl => ?_
  rw [show xQQ X = _ from hC]
  refine W.widen (c_fit O hR hS).1 (c_fit O hR hS).2 (vx_ret (W.iret O.hx O.hb hr (fun t ht hW => ?_) hS.2.2 hd O.hlocks))
  show xQ (xG X) (xslots (xS X).heap + xD X) (enc v) (E σ) (xArgs X) (xS X) (.returned _) t
  rw [he]
  exact ⟨rfl, ret_fit hR ht, hS.F ht⟩
theorem s_lreturnT (O : XOk X cc own F Lo) {x : Int64} (hr : (xMeth X).sig.returnType = some .long) (he : enc v = some (.long x)) (hd : decode cc pc = .ok (.lreturn, 1)) : Sim X E (retCT X enc ci E) pc L [.long x] σ (some (.inl v, σ)) := by
  refine Sim.ret fun hC H locs ls hR hS hl => ?_
  rw [show xQQ X = _ from hC]
  refine W.widen (c_fit O hR hS).1 (c_fit O hR hS).2 (vx_ret (W.lret O.hx O.hb hr (fun t ht hW => ?_) hS.2.2 hd O.hlocks))
  show xQ (xG X) (xslots (xS X).heap + xD X) (enc v) (E σ) (xArgs X) (xS X) (.returned _) t
  rw [he]
  exact ⟨rfl, ret_fit hR ht, hS.F ht⟩
theorem s_returnT (O : XOk X cc own F Lo) (hr : (xMeth X).sig.returnType = none) (he : enc v = none) (hd : decode cc pc = .ok (.return_, 1)) : Sim X E (retCT X enc ci E) pc L [] σ (some (.inl v, σ)) := by
  refine Sim.ret fun hC H locs ls hR hS hl => ?_
  rw [show xQQ X = _ from hC]
  refine W.widen (c_fit O hR hS).1 (c_fit O hR hS).2 (vx_ret (W.vret O.hx O.hb hr (fun t ht hW => ?_) hS.2.2 hd O.hlocks))
  show xQ (xG X) (xslots (xS X).heap + xD X) (enc v) (E σ) (xArgs X) (xS X) (.returned _) t
  rw [he]
  exact ⟨rfl, ret_fit hR ht, hS.F ht⟩
theorem s_areturnT (O : XOk X cc own F Lo) {r : Option Nat} {rt : FieldType} (hr : (xMeth X).sig.returnType = some rt) (hrt : (∃ n, rt = .object n) ∨ ∃ t, rt = .array t) (he : enc v = some (va_rf r)) (hd : decode cc pc = .ok (.areturn, 1)) : Sim X E (retCT X enc ci E) pc L [va_rf r] σ (some (.inl v, σ)) := by
  refine Sim.ret fun hC H locs ls hR hS hl => ?_
  rw [show xQQ X = _ from hC]
  refine W.widen (c_fit O hR hS).1 (c_fit O hR hS).2 (vx_ret (W.aret O.hx O.hb hr hrt (by cases r with | none => exact Or.inl rfl | some b => exact Or.inr ⟨b, rfl⟩) (fun t ht hW => ?_) hS.2.2 hd O.hlocks))
  show xQ (xG X) (xslots (xS X).heap + xD X) (enc v) (E σ) (xArgs X) (xS X) (.returned _) t
  rw [he]
  exact ⟨rfl, ret_fit hR ht, hS.F ht⟩
/-- not caught here -/
theorem sx_out (O : XOk X cc own F Lo) (hout : ∀ x ∈ (xC X).exceptionTable.toList, False) {q : Nat} : SimX X E (retCT X enc ci E) pc L rest σ q ci (some (.inr q, σ)) := by
  refine SimX.ret fun hC H locs ls hR hS hl hce => ?_
  obtain ⟨ce, r, hcell, hv, hr, hcl⟩ := hce
  rw [show xQQ X = _ from hC]
  refine vx_out (E := r.1) (fun x hx => (hout x hx).elim) O.hlocks hcell hv hcl (fun t ht hal => ⟨rfl, ⟨r, hr, rfl⟩, ret_fit hR ht, hS.F ht⟩) hS.2.2 (c_fit O hR hS).1 (c_fit O hR hS).2
/-- caught here, by the first row of the table -/
theorem sx_catch {ρ' : Type} {D : ρ' → S → Prop} {rem : Option (ρ' × S)} (O : XOk X cc own F Lo) {hh : List (Nat × Nat × Nat × Nat)} {r : vw_C} {name : String} {q hpc : Nat} (htab : (xC X).exceptionTable.toList = tableOf hh) (x : ExceptionTableEntry) (suf : List ExceptionTableEntry) (hsplit : tableOf hh = x :: suf) (hx : covers x pc = true) (h0 : x.catchType ≠ 0)
    (hlink : Cond.classLink own x.catchType name ∈ lw_all) (hr : xcl[ci]? = some r) (hcast : va_Nw (.castable r.1 name) (xS X)) (hp : x.handlerPc = hpc) (kk : Sim X E D hpc L [.ref q] σ rem) : SimX X E D pc L rest σ q ci rem := by
  intro v t hr2 hc H locs ls hR hS hl hce
  obtain ⟨ce, r', hcell, hv, hr', hcl⟩ := hce
  cases hr.symm.trans hr'
  refine vx_catch (name := name) O.hown [] x suf (by rw [htab, hsplit]; rfl) (fun z hz => nomatch hz) hx h0 (O.hts _ hlink) (va_Nw.use rfl hcast) hcell hv hcl ?_
  rw [hp]
  exact kk v t hr2 hc H locs ls hR hS hl
/-- a contract out of the walk of the body -/
theorem xMetT_of {l : Launch} {G : XG} {y : MethodName} {fr lo mL : Nat} {ret : Option FieldType} {av : List Value} {body : Option ((ρ ⊕ Nat) × S)} {d : ρ ⊕ Nat} {t : S} (hy : plainFor y = true) (hsl : (lg_sl av).length ≤ mL)
    (walk : ∀ X : XC, xL X = l → xG X = G → XOk X cc y.cls fr lo → (xMeth X).sig.returnType = ret → (xC X).maxLocals = mL → (∀ x ∈ (xC X).exceptionTable.toList, False) → Sim X E (retCT X enc ci E) 0 (lv_args 0 av) [] σ body) (hbody : body = some (d, t)) :
    xMetT l y (ws_ y cc mL ret) fr lo G (E σ) av enc ci d (E t) := by
  refine vx_ofW (cc := cc) (maxL := mL) (ret := ret) hy rfl ?_
  intro p e s m args below meth c s₁ B hml hex hv
  obtain ⟨rfl, hK, hZ, hst, hR, hz⟩ := hv
  have hts := atoms_spec (ws := ws_ y cc mL ret) B.pre
  have hts : ∀ w ∈ lw_all, w.before _ s = true := fun w h => hts w (List.mem_cons_of_mem _ h)
  have hl := lv_entry av (n := mL) hsl
  rw [lg_entry_eq]
  let X : XC := (p, l, e, (headSpec (ws_ y cc mL ret) ({ frames := fr, cells := G.1.2.1 - (E σ).2.1, slots := G.1.2.2.1 - (E σ).2.2.1, locals := lo } : Room)).room, s, m, av.toArray, below, meth, c, vx_MQ below (xqc G (E σ).2.2.1 enc d (E t)) (xxc G (E σ).2.2.1 ci d (E t)) av.toArray s (G.1.2.1 - (E σ).2.1) (G.1.2.2.1 - (E σ).2.2.1) (fun q => G.1.1 ≤ q), G, (E σ).2.2.1 - xslots s.heap)
  have hsum : xslots s.heap + ((E σ).2.2.1 - xslots s.heap) = (E σ).2.2.1 := by have h9 : xslots s.heap + 0 ≤ (E σ).2.2.1 := hR.2.1; omega
  have O : XOk X cc y.cls fr lo := ⟨B.exec, B.bytes, findClass_of_methodNamed B.named, hts, B.notSynchronized, hK, hZ, hst, hz, by show s.heap.size ≤ G.1.2.1; rw [hR.1]; exact hR.2.2.2.1, by show xslots s.heap + ((E σ).2.2.1 - xslots s.heap) ≤ G.1.2.2.1; rw [hsum]; exact hR.2.2.2.2.1, by show G.1.2.1 - (E σ).2.1 = G.1.2.1 - s.heap.size; rw [hR.1], by show G.1.2.2.1 - (E σ).2.2.1 = G.1.2.2.1 - (xslots s.heap + ((E σ).2.2.1 - xslots s.heap)); rw [hsum], Nat.le_refl _, Nat.le_refl _⟩
  have h := walk X rfl rfl O B.returns hml hex d t hbody (by show vx_MQ _ _ _ _ _ _ _ _ = vx_MQ below (xqc G (xslots s.heap + ((E σ).2.2.1 - xslots s.heap)) enc d (E t)) (xxc G (xslots s.heap + ((E σ).2.2.1 - xslots s.heap)) ci d (E t)) av.toArray s _ _ _; rw [hsum]; rfl) s.heap [] _ (hR.with (by show xslots s.heap + ((E σ).2.2.1 - xslots s.heap) ≤ _; omega)) va_S.rf (by show lv_has _ c.maxLocals _; rw [hml]; exact hl)
  have h2 : s.heap.size - s.heap.size = 0 := Nat.sub_self _
  have h3 : xslots s.heap - xslots s.heap = 0 := Nat.sub_self _
  have h4 : W p l e (headSpec (ws_ y cc mL ret) ({ frames := fr, cells := G.1.2.1 - (E σ).2.1, slots := G.1.2.2.1 - (E σ).2.2.1, locals := lo } : Room)).room s m av.toArray below meth c s.heap [] (s.heap.size - s.heap.size) (xslots s.heap - xslots s.heap) (vx_MQ below (xqc G (E σ).2.2.1 enc d (E t)) (xxc G (E σ).2.2.1 ci d (E t)) av.toArray s (G.1.2.1 - (E σ).2.1) (G.1.2.2.1 - (E σ).2.2.1) (fun q => G.1.1 ≤ q)) _ := h
  rw [h2, h3] at h4
  exact h4
/-- a contract that returns, of a method with handlers -/
theorem xMet_ofH {l : Launch} {G : XG} {y : MethodName} {fr lo mL : Nat} {ret : Option FieldType} {hh : List (Nat × Nat × Nat × Nat)} {av : List Value} {body : Option (ρ × S)} {t : S} (hy : plainName y.cls = true) (hsl : (lg_sl av).length ≤ mL)
    (walk : ∀ X : XC, xL X = l → xG X = G → XOk X cc y.cls fr lo → (xMeth X).sig.returnType = ret → (xC X).maxLocals = mL → (xC X).exceptionTable.toList = tableOf hh → Sim X E (retC X enc E) 0 (lv_args 0 av) [] σ body) (hbody : body = some (v, t)) :
    xMet l y (wsW_ y cc mL ret hh) fr lo G (E σ) av (enc v) (E t) := by
  have hM : vx_Met l y (wsW_ y cc mL ret hh) ({ frames := fr, cells := G.1.2.1 - (E σ).2.1, slots := G.1.2.2.1 - (E σ).2.2.1, locals := lo } : Room) (va_Pc av (xPre G (E σ))) (xQ G (E σ).2.2.1 (enc v) (E t)) (fun _ _ _ _ => False) (G.1.2.1 - (E σ).2.1) (G.1.2.2.1 - (E σ).2.2.1) (fun q => G.1.1 ≤ q) := by
    refine vx_ofWH (cc := cc) (maxL := mL) (ret := ret) (hh := hh) hy rfl ?_
    intro p e s m args below meth c s₁ B hml hv
    obtain ⟨rfl, hK, hZ, hst, hR, hz⟩ := hv
    have hts0 := atoms_spec (ws := wsW_ y cc mL ret hh) B.pre
    have hts : ∀ w ∈ lw_all, w.before _ s = true := fun w h => hts0 w (List.mem_cons_of_mem _ h)
    have htab := vx_table (x := y) B (hts0 _ List.mem_cons_self)
    have hl := lv_entry av (n := mL) hsl
    rw [lg_entry_eq]
    let X : XC := (p, l, e, (headSpec (wsW_ y cc mL ret hh) ({ frames := fr, cells := G.1.2.1 - (E σ).2.1, slots := G.1.2.2.1 - (E σ).2.2.1, locals := lo } : Room)).room, s, m, av.toArray, below, meth, c, MQ below (xQ G (E σ).2.2.1 (enc v) (E t)) av.toArray s (G.1.2.1 - (E σ).2.1) (G.1.2.2.1 - (E σ).2.2.1) (fun q => G.1.1 ≤ q), G, (E σ).2.2.1 - xslots s.heap)
    have hsum : xslots s.heap + ((E σ).2.2.1 - xslots s.heap) = (E σ).2.2.1 := by have h9 : xslots s.heap + 0 ≤ (E σ).2.2.1 := hR.2.1; omega
    have O : XOk X cc y.cls fr lo := ⟨B.exec, B.bytes, findClass_of_methodNamed B.named, hts, B.notSynchronized, hK, hZ, hst, hz, by show s.heap.size ≤ G.1.2.1; rw [hR.1]; exact hR.2.2.2.1, by show xslots s.heap + ((E σ).2.2.1 - xslots s.heap) ≤ G.1.2.2.1; rw [hsum]; exact hR.2.2.2.2.1, by show G.1.2.1 - (E σ).2.1 = G.1.2.1 - s.heap.size; rw [hR.1], by show G.1.2.2.1 - (E σ).2.2.1 = G.1.2.2.1 - (xslots s.heap + ((E σ).2.2.1 - xslots s.heap)); rw [hsum], Nat.le_refl _, Nat.le_refl _⟩
    have h := walk X rfl rfl O B.returns hml htab v t hbody (by show MQ _ _ _ _ _ _ _ = MQ below (xQ G (xslots s.heap + ((E σ).2.2.1 - xslots s.heap)) (enc v) (E t)) av.toArray s _ _ _; rw [hsum]; rfl) s.heap [] _ (hR.with (by show xslots s.heap + ((E σ).2.2.1 - xslots s.heap) ≤ _; omega)) va_S.rf (by show lv_has _ c.maxLocals _; rw [hml]; exact hl)
    have h2 : s.heap.size - s.heap.size = 0 := Nat.sub_self _
    have h3 : xslots s.heap - xslots s.heap = 0 := Nat.sub_self _
    have h4 : W p l e (headSpec (wsW_ y cc mL ret hh) ({ frames := fr, cells := G.1.2.1 - (E σ).2.1, slots := G.1.2.2.1 - (E σ).2.2.1, locals := lo } : Room)).room s m av.toArray below meth c s.heap [] (s.heap.size - s.heap.size) (xslots s.heap - xslots s.heap) (MQ below (xQ G (E σ).2.2.1 (enc v) (E t)) av.toArray s (G.1.2.1 - (E σ).2.1) (G.1.2.2.1 - (E σ).2.2.1) (fun q => G.1.1 ≤ q)) _ := h
    rw [h2, h3] at h4
    exact vx_ret h4
  intro p e ha hc hk s m args below hf happ hP hKK
  obtain ⟨k, o, h1, h2, h3, h4⟩ := hM p e ha hc hk s m args below hf happ hP hKK
  refine ⟨k, o, h1, h2, h3, ?_⟩
  rcases h4 with h4 | ⟨q, -, E', ce, L', hF, -⟩
  · exact h4
  · exact hF.elim
end Thr
section Thr2
variable {ρ : Type} {X : XC} {cc : ByteArray} {own : String} {F Lo : Nat} {C : ρ → XS → Prop} {pc : Nat} {L : List (Nat × Value)} {rest : List Value} {σ : XS} {a : Nat}
/-- 'throw x' of a made object -/
theorem x_athrow (O : XOk X cc own F Lo) {ci : Nat} {r : vw_C} (hr : xcl[ci]? = some r) {rem : Option (ρ × XS)} (hd : decode cc pc = .ok (.athrow, 1)) (kx : SimX X xI C pc L rest σ a ci rem) : Sim X xI C pc L (.ref a :: rest) σ (xo σ a ci fun _ => rem) := by
  intro v t hr2 hc
  obtain ⟨fs, ha, hr2⟩ := xo_ex hr2
  intro H locs ls hR hS hl
  obtain ⟨ce, h1, h2, h3⟩ := hR.cell ha
  exact vx_athrow O.hx O.hb hd (kx v t hr2 hc H locs ls hR hS hl ⟨ce, r, h1, h2, hr, by rw [h3]; exact (O.hK.1.1 ci r hr).2.1⟩)
theorem xRunT_go {ρ2 : Type} {enc2 : ρ2 → Option Value} {st0 : List Value} {σ' : XS} {d : ρ2 ⊕ Nat} {cj : Nat} {av : Array Value} {H : Heap} {locs : List Loc} {ls : Array Slot} {cells slots mc ms : Nat}
    (hr : vx_Run (xP X) (xL X) (xEnv X) (xR X) (xS X) (xM X) (xArgs X) (xBelow X) (xMeth X) (xC X) H locs cells slots mc ms (F0 (xM X) pc ls st0) rest (xqc (xG X) σ.2.2.1 enc2 d σ' av) (xxc (xG X) σ.2.2.1 cj d σ') (fun q => (xG X).1.1 ≤ q)) (hR : Rep (xD X) (xG X) σ H) (hS : va_S (fun q => (xG X).1.1 ≤ q) (xS X).heap H locs) (hl : lv_has ls (xC X).maxLocals L)
    (kk : ∀ v, d = .inl v → xWX X (pc + 3) L ((enc2 v).toList ++ rest) σ') (kx : ∀ q, d = .inr q → xVX X pc L rest σ' q cj) : W (xP X) (xL X) (xEnv X) (xR X) (xS X) (xM X) (xArgs X) (xBelow X) (xMeth X) (xC X) H locs cells slots (xQQ X) (F0 (xM X) pc ls st0) := by
  intro T hT Y
  have hR2 := hR.2.1
  rcases hr T hT Y with ⟨v, st₀, t, T', L', h0, X', hL, e1, e2, hq, st⟩ | ⟨q, st₀, t, T', L', E', ce, h0, X', hL, e1, e2, hq, hce, hvm, hcl, st⟩
  · cases d with
    | inr q => exact hq.elim
    | inl w =>
      obtain ⟨hv, ⟨hRep, hsl⟩, hz, hk⟩ := hq
      cases hv
      rw [h0] at hz hk hsl
      have hS1 : va_S (fun q => (xG X).1.1 ≤ q) (xS X).heap T'.heap (locs ++ L') := ⟨Nat.le_trans hS.1 (by rw [e1]; exact hz), fun q h1 h2 => by rw [e1, hk q (Nat.lt_of_lt_of_le h1 hS.1) h2]; exact hS.2.1 q h1 h2, fun q hq => by
          rcases List.mem_append.mp hq with h | h
          · exact hS.2.2 q h
          · exact hL q h⟩
      obtain ⟨t2, a1, b1⟩ := W.tight (kk w rfl T'.heap (locs ++ L') ls (by rw [e1]; exact hRep.with (by omega)) hS1 hl) T' rfl X'
      exact ⟨t2, st t2 a1, b1⟩
  · cases d with
    | inl w => exact hq.elim
    | inr w =>
      obtain ⟨rfl, ⟨r, hr1, rfl⟩, ⟨hRep, hsl⟩, hz, hk⟩ := hq
      rw [h0] at hz hk hsl
      have hS1 : va_S (fun q => (xG X).1.1 ≤ q) (xS X).heap T'.heap (locs ++ L') := ⟨Nat.le_trans hS.1 (by rw [e1]; exact hz), fun q h1 h2 => by rw [e1, hk q (Nat.lt_of_lt_of_le h1 hS.1) h2]; exact hS.2.1 q h1 h2, fun q hq => by
          rcases List.mem_append.mp hq with h | h
          · exact hS.2.2 q h
          · exact hL q h⟩
      obtain ⟨t2, a1, b1⟩ := vx_tight (kx q rfl T'.heap (locs ++ L') ls (by rw [e1]; exact hRep.with (by omega)) hS1 hl ⟨ce, r, by rw [e1]; exact hce, hvm, hr1, hcl⟩) T' rfl X'
      exact ⟨t2, Steps.trans st a1, b1⟩
theorem x_callVT (O : XOk X cc own F Lo) {ρ2 : Type} {enc2 : ρ2 → Option Value} {g : Option ((ρ2 ⊕ Nat) × XS)} {k : ρ2 → XS → Option (ρ × XS)} {kx : Nat → XS → Option (ρ × XS)} {y : MethodName} {bytes : ByteArray} {mL index fr lo ci cj : Nat} {ret : Option FieldType} {av : List Value} {q : vw_C} (n : Nat)
    (hM : ∀ d t, g = some (d, t) → xMetT (xL X) y (ws_ y bytes mL ret) fr lo (xG X) (xI σ) (.ref a :: av) enc2 cj d (xI t)) (hG : GoodIn lw_all (wsV own index q.1 y (ws_ y bytes mL ret))) (hd0 : y.cls = q.1 ∧ y.cls ≠ "java/lang/invoke/MethodHandle" ∧ y.cls ≠ "java/lang/invoke/VarHandle" ∧ (parseMethodDescriptor y.desc).map (fun d => d.parameters.length) = some n)
    (hroom : fr + 1 ≤ F ∧ 8 + (mL + 11) + lo ≤ Lo) (hq : xcl[ci]? = some q) (hn : av.length = n) (hrest : (rest.map fun v => v.category).sum ≤ 8) (hd : decode cc pc = .ok (.invokevirtual index, 3))
    (hk : ∀ v t, Sim X xI C (pc + 3) L ((enc2 v).toList ++ rest) t (k v t)) (hx : ∀ z t, SimX X xI C pc L rest t z cj (kx z t)) : Sim X xI C pc L (av.reverse ++ .ref a :: rest) σ (xo σ a ci fun _ => bndT g k kx) := by
  intro v t hr hc
  obtain ⟨fs, ha, hr⟩ := xo_ex hr
  intro H locs ls hR hS hl
  refine W.withSlots fun hsl => ?_
  obtain ⟨d, t2, h1, h2⟩ : ∃ d t2, g = some (d, t2) ∧ (∀ w, d = .inl w → k w t2 = some (v, t)) ∧ (∀ z, d = .inr z → kx z t2 = some (v, t)) := by
    rcases bndT_ex hr with ⟨w, s, e1, e2⟩ | ⟨z, s, e1, e2⟩
    · exact ⟨_, s, e1, (fun w' h => by cases h; exact e2), (fun z' h => by cases h)⟩
    · exact ⟨_, s, e1, (fun w' h => by cases h), (fun z' h => by cases h; exact e2)⟩
  exact xRunT_go (vx_runV (As := av) (rest := rest) ⟨O.hx, O.hb, rfl, O.hown, O.hts⟩ (hM d t2 h1) (cwV n O.hts hG rfl rfl rfl hd0 ⟨Nat.le_trans hroom.1 O.hF.1, Nat.le_trans hroom.2 O.hF.2⟩) ⟨xPre.blind, va_recv (tys := []) O.hK.1 (hR.obj ha) hq (q0 := 0) rfl, fun U hU hW => ⟨rfl, O.pre hR hS U hU hW⟩⟩ rfl hn hl.1 rfl (lv_room hrest) hd (O.roomy hR hS hsl)) hR hS hl (fun w hw => hk w t2 v t (h2.1 w hw) hc) (fun z hz => hx z t2 v t (h2.2 z hz) hc)
theorem x_callST (O : XOk X cc own F Lo) {ρ2 : Type} {enc2 : ρ2 → Option Value} {g : Option ((ρ2 ⊕ Nat) × XS)} {k : ρ2 → XS → Option (ρ × XS)} {kx : Nat → XS → Option (ρ × XS)} {y : MethodName} {bytes : ByteArray} {mL index fr lo cj : Nat} {ret : Option FieldType} {av : List Value} (n : Nat)
    (hM : ∀ d t, g = some (d, t) → xMetT (xL X) y (ws_ y bytes mL ret) fr lo (xG X) (xI σ) av enc2 cj d (xI t)) (hG : GoodIn lw_all (va_wsS own index y (ws_ y bytes mL ret))) (hd0 : y.cls ≠ "java/lang/invoke/MethodHandle" ∧ y.cls ≠ "java/lang/invoke/VarHandle" ∧ (parseMethodDescriptor y.desc).map (fun d => d.parameters.length) = some n)
    (hroom : fr + 1 ≤ F ∧ 8 + (mL + 11) + lo ≤ Lo) (hn : av.length = n) (hrest : (rest.map fun v => v.category).sum ≤ 8) (hd : decode cc pc = .ok (.invokestatic index, 3))
    (hk : ∀ v t, Sim X xI C (pc + 3) L ((enc2 v).toList ++ rest) t (k v t)) (hx : ∀ z t, SimX X xI C pc L rest t z cj (kx z t)) : Sim X xI C pc L (av.reverse ++ rest) σ (bndT g k kx) := by
  intro v t hr hc H locs ls hR hS hl
  refine W.withSlots fun hsl => ?_
  obtain ⟨d, t2, h1, h2⟩ : ∃ d t2, g = some (d, t2) ∧ (∀ w, d = .inl w → k w t2 = some (v, t)) ∧ (∀ z, d = .inr z → kx z t2 = some (v, t)) := by
    rcases bndT_ex hr with ⟨w, s, e1, e2⟩ | ⟨z, s, e1, e2⟩
    · exact ⟨_, s, e1, (fun w' h => by cases h; exact e2), (fun z' h => by cases h)⟩
    · exact ⟨_, s, e1, (fun w' h => by cases h), (fun z' h => by cases h; exact e2)⟩
  exact xRunT_go (vx_runS (As := av) (rest := rest) ⟨O.hx, O.hb, rfl, O.hown, O.hts⟩ (hM d t2 h1) (va_cwS n O.hts hG rfl rfl rfl hd0 ⟨Nat.le_trans hroom.1 O.hF.1, Nat.le_trans hroom.2 O.hF.2⟩) ⟨xPre.blind, fun U hU hW => ⟨rfl, O.pre hR hS U hU hW⟩⟩ rfl hn hl.1 rfl (lv_room hrest) hd (O.roomy hR hS hsl)) hR hS hl (fun w hw => hk w t2 v t (h2.1 w hw) hc) (fun z hz => hx z t2 v t (h2.2 z hz) hc)
/-- a method with handlers, called -/
theorem x_callVH (O : XOk X cc own F Lo) {ρ2 : Type} {enc2 : ρ2 → Option Value} {g : Option (ρ2 × XS)} {k : ρ2 → XS → Option (ρ × XS)} {y : MethodName} {bytes : ByteArray} {mL index fr lo ci : Nat} {ret : Option FieldType} {hh : List (Nat × Nat × Nat × Nat)} {av : List Value} {q : vw_C} (n : Nat)
    (hM : ∀ v t, g = some (v, t) → xMet (xL X) y (wsW_ y bytes mL ret hh) fr lo (xG X) (xI σ) (.ref a :: av) (enc2 v) (xI t)) (hG : GoodIn lw_all (wsV own index q.1 y (wsW_ y bytes mL ret hh))) (hd0 : y.cls = q.1 ∧ y.cls ≠ "java/lang/invoke/MethodHandle" ∧ y.cls ≠ "java/lang/invoke/VarHandle" ∧ (parseMethodDescriptor y.desc).map (fun d => d.parameters.length) = some n)
    (hroom : fr + 1 ≤ F ∧ 8 + (mL + 11) + lo ≤ Lo) (hq : xcl[ci]? = some q) (hn : av.length = n) (hrest : (rest.map fun v => v.category).sum ≤ 8) (hd : decode cc pc = .ok (.invokevirtual index, 3))
    (kk : ∀ v t, Sim X xI C (pc + 3) L ((enc2 v).toList ++ rest) t (k v t)) : Sim X xI C pc L (av.reverse ++ .ref a :: rest) σ (xo σ a ci fun _ => bnd g k) := by
  intro v t hr hc
  obtain ⟨fs, ha, hr⟩ := xo_ex hr
  obtain ⟨v2, t2, h1, h2⟩ := bnd_ex hr
  intro H locs ls hR hS hl
  refine W.withSlots fun hsl => ?_
  exact xRun_go (vx_runVW (As := av) (rest := rest) ⟨O.hx, O.hb, rfl, O.hown, O.hts⟩ (hM v2 t2 h1) (vx_cwVW n O.hts hG rfl rfl rfl hd0 ⟨Nat.le_trans hroom.1 O.hF.1, Nat.le_trans hroom.2 O.hF.2⟩) ⟨xPre.blind, va_recv (tys := []) O.hK.1 (hR.obj ha) hq (q0 := 0) rfl, fun U hU hW => ⟨rfl, O.pre hR hS U hU hW⟩⟩ rfl hn hl.1 rfl (lv_room hrest) hd (O.roomy hR hS hsl)) hR hS hl (kk v2 t2 v t h2 hc)
theorem x_callSH (O : XOk X cc own F Lo) {ρ2 : Type} {enc2 : ρ2 → Option Value} {g : Option (ρ2 × XS)} {k : ρ2 → XS → Option (ρ × XS)} {y : MethodName} {bytes : ByteArray} {mL index fr lo : Nat} {ret : Option FieldType} {hh : List (Nat × Nat × Nat × Nat)} {av : List Value} (n : Nat)
    (hM : ∀ v t, g = some (v, t) → xMet (xL X) y (wsW_ y bytes mL ret hh) fr lo (xG X) (xI σ) av (enc2 v) (xI t)) (hG : GoodIn lw_all (va_wsS own index y (wsW_ y bytes mL ret hh))) (hd0 : y.cls ≠ "java/lang/invoke/MethodHandle" ∧ y.cls ≠ "java/lang/invoke/VarHandle" ∧ (parseMethodDescriptor y.desc).map (fun d => d.parameters.length) = some n)
    (hroom : fr + 1 ≤ F ∧ 8 + (mL + 11) + lo ≤ Lo) (hn : av.length = n) (hrest : (rest.map fun v => v.category).sum ≤ 8) (hd : decode cc pc = .ok (.invokestatic index, 3))
    (kk : ∀ v t, Sim X xI C (pc + 3) L ((enc2 v).toList ++ rest) t (k v t)) : Sim X xI C pc L (av.reverse ++ rest) σ (bnd g k) := by
  intro v t hr hc
  obtain ⟨v2, t2, h1, h2⟩ := bnd_ex hr
  intro H locs ls hR hS hl
  refine W.withSlots fun hsl => ?_
  exact xRun_go (vx_runSW (As := av) (rest := rest) ⟨O.hx, O.hb, rfl, O.hown, O.hts⟩ (hM v2 t2 h1) (vx_cwSW n O.hts hG rfl rfl rfl hd0 ⟨Nat.le_trans hroom.1 O.hF.1, Nat.le_trans hroom.2 O.hF.2⟩) ⟨xPre.blind, fun U hU hW => ⟨rfl, O.pre hR hS U hU hW⟩⟩ rfl hn hl.1 rfl (lv_room hrest) hd (O.roomy hR hS hsl)) hR hS hl (kk v2 t2 v t h2 hc)
end Thr2
