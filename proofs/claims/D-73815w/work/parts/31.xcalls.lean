/-! CALLS over a made world; what is thrown and caught -/
abbrev eR : Option Nat → Option Value := fun r => some (va_rf r)
def bndT {α S β : Type} (o : Option ((α ⊕ Nat) × S)) (k : α → S → Option β) (kx : Nat → S → Option β) : Option β := match o with
  | none => none
  | some (.inl a, s) => k a s
  | some (.inr q, s) => kx q s
theorem bndT_ex {α S β : Type} {o : Option ((α ⊕ Nat) × S)} {k : α → S → Option β} {kx : Nat → S → Option β} {y : β} (h : bndT o k kx = some y) : (∃ a s, o = some (.inl a, s) ∧ k a s = some y) ∨ (∃ q s, o = some (.inr q, s) ∧ kx q s = some y) := by
  unfold bndT at h
  split at h
  · cases h
  · exact Or.inl ⟨_, _, rfl, h⟩
  · exact Or.inr ⟨_, _, rfl, h⟩
section XC1
variable {ρ : Type} {X : XC} {cc : ByteArray} {own : String} {F Lo : Nat} {C : ρ → XS → Prop} {pc : Nat} {L : List (Nat × Value)} {rest : List Value} {σ : XS} {rem : Option (ρ × XS)} {a : Nat}
theorem Rep.cell {d : Nat} {G : XG} {H : Heap} {ci : Nat} {fs : List Value} (h : Rep d G σ H) (ha : σ.2.2.2 a = some (cO ci fs)) : ∃ ce : Cell, H[a]? = some ce ∧ ce.vm = .none ∧ ce.cls = G.2.1.1 ci := by
  obtain ⟨r, h1, h2, cell, h3, h4, h5, -⟩ := h.at ha
  exact ⟨cell, h3, h5, h4⟩
theorem x_callV (O : XOk X cc own F Lo) {ρ2 : Type} {enc2 : ρ2 → Option Value} {g : Option (ρ2 × XS)} {k : ρ2 → XS → Option (ρ × XS)} {y : MethodName} {bytes : ByteArray} {mL index fr lo ci : Nat} {ret : Option FieldType} {av : List Value} {q : vw_C} (n : Nat)
    (hM : ∀ v t, g = some (v, t) → xMet (xL X) y (ws_ y bytes mL ret) fr lo (xG X) (xI σ) (.ref a :: av) (enc2 v) (xI t)) (hG : GoodIn lw_all (wsV own index q.1 y (ws_ y bytes mL ret))) (hd0 : y.cls = q.1 ∧ y.cls ≠ "java/lang/invoke/MethodHandle" ∧ y.cls ≠ "java/lang/invoke/VarHandle" ∧ (parseMethodDescriptor y.desc).map (fun d => d.parameters.length) = some n)
    (hroom : fr + 1 ≤ F ∧ 8 + (mL + 11) + lo ≤ Lo) (hq : xcl[ci]? = some q) (hn : av.length = n) (hrest : (rest.map fun v => v.category).sum ≤ 8) (hd : decode cc pc = .ok (.invokevirtual index, 3))
    (kk : ∀ v t, Sim X xI C (pc + 3) L ((enc2 v).toList ++ rest) t (k v t)) : Sim X xI C pc L (av.reverse ++ .ref a :: rest) σ (xo σ a ci fun _ => bnd g k) := by
  intro v t hr hc
  obtain ⟨fs, ha, hr⟩ := xo_ex hr
  obtain ⟨v2, t2, h1, h2⟩ := bnd_ex hr
  exact c_callV O (σ := σ) (ci := ci) (fs := fs) (q := q) n (hM v2 t2 h1) hG hd0 hroom ha hq hn hrest hd (kk v2 t2 v t h2 hc)
theorem x_callS (O : XOk X cc own F Lo) {ρ2 : Type} {enc2 : ρ2 → Option Value} {g : Option (ρ2 × XS)} {k : ρ2 → XS → Option (ρ × XS)} {y : MethodName} {bytes : ByteArray} {mL index fr lo : Nat} {ret : Option FieldType} {av : List Value} (n : Nat)
    (hM : ∀ v t, g = some (v, t) → xMet (xL X) y (ws_ y bytes mL ret) fr lo (xG X) (xI σ) av (enc2 v) (xI t)) (hG : GoodIn lw_all (va_wsS own index y (ws_ y bytes mL ret))) (hd0 : y.cls ≠ "java/lang/invoke/MethodHandle" ∧ y.cls ≠ "java/lang/invoke/VarHandle" ∧ (parseMethodDescriptor y.desc).map (fun d => d.parameters.length) = some n)
    (hroom : fr + 1 ≤ F ∧ 8 + (mL + 11) + lo ≤ Lo) (hn : av.length = n) (hrest : (rest.map fun v => v.category).sum ≤ 8) (hd : decode cc pc = .ok (.invokestatic index, 3))
    (kk : ∀ v t, Sim X xI C (pc + 3) L ((enc2 v).toList ++ rest) t (k v t)) : Sim X xI C pc L (av.reverse ++ rest) σ (bnd g k) := by
  intro v t hr hc
  obtain ⟨v2, t2, h1, h2⟩ := bnd_ex hr
  exact c_callS O (σ := σ) n (hM v2 t2 h1) hG hd0 hroom hn hrest hd (kk v2 t2 v t h2 hc)
theorem x_callSN (O : XOk X cc own F Lo) {ρ2 : Type} {enc2 : ρ2 → Option Value} {g : Option (ρ2 × XS)} {k : ρ2 → XS → Option (ρ × XS)} {y : MethodName} {bytes : ByteArray} {mL index fr lo : Nat} {ret : Option FieldType} {av : List Value} {host : String} (n : Nat)
    (hM : ∀ v t, g = some (v, t) → xMet (xL X) y (ws_ y bytes mL ret) fr lo (xG X) (xI σ) av (enc2 v) (xI t)) (hcode : Cond.code y bytes mL ret ∈ lw_all) (hl : va_Nw (.methodLinkNest own index y host) (xS X)) (hini : Cond.initialized y.cls ∈ lw_all) (hst : Cond.static y ∈ lw_all) (hd0 : y.cls ≠ "java/lang/invoke/MethodHandle" ∧ y.cls ≠ "java/lang/invoke/VarHandle" ∧ (parseMethodDescriptor y.desc).map (fun d => d.parameters.length) = some n)
    (hroom : fr + 1 ≤ F ∧ 8 + (mL + 11) + lo ≤ Lo) (hn : av.length = n) (hrest : (rest.map fun v => v.category).sum ≤ 8) (hd : decode cc pc = .ok (.invokestatic index, 3))
    (kk : ∀ v t, Sim X xI C (pc + 3) L ((enc2 v).toList ++ rest) t (k v t)) : Sim X xI C pc L (av.reverse ++ rest) σ (bnd g k) := by
  intro v t hr hc
  obtain ⟨v2, t2, h1, h2⟩ := bnd_ex hr
  have kk1 := kk v2 t2 v t h2 hc
  intro H locs ls hR hS hl0
  refine W.withSlots fun hsl => ?_
  exact xRun_go (va_runSN (As := av) (rest := rest) ⟨O.hx, O.hb, rfl, O.hown, O.hts⟩ (hM v2 t2 h1) ⟨va_cnB n O.hts (lw_meth hcode) rfl rfl rfl hl (O.hts _ hini) hd0 ⟨Nat.le_trans hroom.1 O.hF.1, Nat.le_trans hroom.2 O.hF.2⟩, O.hts _ hst, trivial⟩ ⟨xPre.blind, fun U hU hW => ⟨rfl, O.pre hR hS U hU hW⟩⟩ rfl hn hl0.1 rfl (lv_room hrest) hd (O.roomy hR hS hsl)) hR hS hl0 kk1
theorem x_callI (O : XOk X cc own F Lo) {ρ2 : Type} {enc2 : ρ2 → Option Value} {g : Option (ρ2 × XS)} {k : ρ2 → XS → Option (ρ × XS)} {y : MethodName} {bytes : ByteArray} {mL index fr lo : Nat} {av : List Value} (n : Nat)
    (hM : ∀ v t, g = some (v, t) → xMet (xL X) y (ws_ y bytes mL none) fr lo (xG X) (xI σ) (.ref a :: av) (enc2 v) (xI t)) (hcode : Cond.code y bytes mL none ∈ lw_all) (hini : Cond.initialized y.cls ∈ lw_all) (hlink : Cond.methodLink own index y ∈ lw_all) (hinst : Cond.instanceMethod y ∈ lw_all) (hnm : y.name = "<init>") (hd0 : y.cls ≠ "java/lang/invoke/MethodHandle" ∧ y.cls ≠ "java/lang/invoke/VarHandle" ∧ (parseMethodDescriptor y.desc).map (fun d => d.parameters.length) = some n)
    (hroom : fr + 1 ≤ F ∧ 8 + (mL + 11) + lo ≤ Lo) (hn : av.length = n) (hrest : (rest.map fun v => v.category).sum ≤ 8) (hd : decode cc pc = .ok (.invokespecial index, 3))
    (kk : ∀ v t, Sim X xI C (pc + 3) L ((enc2 v).toList ++ rest) t (k v t)) : Sim X xI C pc L (av.reverse ++ .ref a :: rest) σ (bnd g k) := by
  intro v t hr hc
  obtain ⟨v2, t2, h1, h2⟩ := bnd_ex hr
  have kk1 := kk v2 t2 v t h2 hc
  intro H locs ls hR hS hl0
  refine W.withSlots fun hsl => ?_
  exact xRun_go (va_runI (As := av) (rest := rest) ⟨O.hx, O.hb, rfl, O.hown, O.hts⟩ (hM v2 t2 h1) ⟨callB_of n O.hts (lw_meth hcode) rfl rfl rfl (O.hts _ hini) (O.hts _ hlink) hd0 ⟨Nat.le_trans hroom.1 O.hF.1, Nat.le_trans hroom.2 O.hF.2⟩, hnm, O.hts _ hinst⟩ ⟨xPre.blind, fun U hU hW => ⟨rfl, O.pre hR hS U hU hW⟩⟩ rfl hn hl0.1 rfl (lv_room hrest) hd (O.roomy hR hS hsl)) hR hS hl0 kk1
theorem x_objInit (O : XOk X cc own F Lo) {index : Nat} (hlink : Cond.methodLink own index objectInit ∈ lw_all) (hinst : Cond.instanceMethod objectInit ∈ lw_all) (hcode : Cond.code objectInit ⟨#[0xb1]⟩ 1 none ∈ lw_all) (hroom : 1 ≤ F ∧ 20 ≤ Lo) (hrest : (rest.map fun v => v.category).sum ≤ 8) (hd : decode cc pc = .ok (.invokespecial index, 3))
    (kk : Sim X xI C (pc + 3) L rest σ rem) : Sim X xI C pc L (.ref a :: rest) σ rem := by
  intro v t hr hc H locs ls hR hS hl
  exact W.objInit O.hx O.hb O.hown (O.hts _ hlink) (O.hts _ hinst) (O.hts _ hcode) rfl hl.1 rfl hd (Nat.le_trans hroom.1 O.hF.1) (Nat.le_trans (by have := lv_room (m := xM X) (pc := pc) (ls := ls) (rest := .ref a :: rest) hrest; omega) (Nat.le_trans hroom.2 O.hF.2)) (kk v t hr hc H locs ls hR hS hl)
/-- super.m(..) of a made object -/
theorem x_callSU (O : XOk X cc own F Lo) {ρ2 : Type} {enc2 : ρ2 → Option Value} {g : Option (ρ2 × XS)} {k : ρ2 → XS → Option (ρ × XS)} {y : MethodName} {bytes : ByteArray} {mL index fr lo ci : Nat} {ret : Option FieldType} {av : List Value} {q : vw_C} (n : Nat)
    (hM : ∀ v t, g = some (v, t) → xMet (xL X) y (ws_ y bytes mL ret) fr lo (xG X) (xI σ) (.ref a :: av) (enc2 v) (xI t)) (hG : GoodIn lw_all (va_wsSU own index y (ws_ y bytes mL ret))) (hd0 : y.name ≠ "<init>" ∧ (parseMethodDescriptor y.desc).map (fun d => d.parameters.length) = some n)
    (hroom : fr + 1 ≤ F ∧ 8 + (mL + 11) + lo ≤ Lo) (hq : xcl[ci]? = some q) (hn : av.length = n) (hrest : (rest.map fun v => v.category).sum ≤ 8) (hd : decode cc pc = .ok (.invokespecial index, 3))
    (kk : ∀ v t, Sim X xI C (pc + 3) L ((enc2 v).toList ++ rest) t (k v t)) : Sim X xI C pc L (av.reverse ++ .ref a :: rest) σ (xo σ a ci fun _ => bnd g k) := by
  intro v t hr hc
  obtain ⟨fs, ha, hr⟩ := xo_ex hr
  obtain ⟨v2, t2, h1, h2⟩ := bnd_ex hr
  have kk1 := kk v2 t2 v t h2 hc
  intro H locs ls hR hS hl
  refine W.withSlots fun hsl => ?_
  exact xRun_go (va_runSU (C := q.1) (As := av) (rest := rest) (O.hK.1.1 ci q hq).2 ⟨O.hx, O.hb, rfl, O.hown, O.hts⟩ (hM v2 t2 h1) (va_cwSU n O.hts hG rfl rfl rfl hd0 ⟨Nat.le_trans hroom.1 O.hF.1, Nat.le_trans hroom.2 O.hF.2⟩) ⟨xPre.blind, va_recv (tys := []) O.hK.1 (hR.obj ha) hq (q0 := 0) rfl, fun U hU hW => ⟨rfl, O.pre hR hS U hU hW⟩⟩ rfl hn hl.1 rfl (lv_room hrest) hd (O.roomy hR hS hsl)) hR hS hl kk1
theorem xRun5_go {st0 : List Value} {σ' : XS} {r : Option Value} {av : Array Value} {H : Heap} {locs : List Loc} {ls : Array Slot} {cells slots mc ms : Nat}
    (hr : va_Run5 (xP X) (xL X) (xEnv X) (xR X) (xS X) (xM X) (xArgs X) (xBelow X) (xMeth X) (xC X) H locs cells slots mc ms (F0 (xM X) pc ls st0) rest (xQ (xG X) σ.2.2.1 r σ' av) (fun q => (xG X).1.1 ≤ q)) (hR : Rep (xD X) (xG X) σ H) (hS : va_S (fun q => (xG X).1.1 ≤ q) (xS X).heap H locs) (hl : lv_has ls (xC X).maxLocals L)
    (kk : xWX X (pc + 5) L (r.toList ++ rest) σ') : W (xP X) (xL X) (xEnv X) (xR X) (xS X) (xM X) (xArgs X) (xBelow X) (xMeth X) (xC X) H locs cells slots (xQQ X) (F0 (xM X) pc ls st0) := by
  intro T hT Y
  obtain ⟨v, st₀, t, T', L', h0, X', hL, e1, e2, ⟨hv, ⟨hRep, hsl⟩, hz, hk⟩, st⟩ := hr T hT Y
  cases hv
  rw [h0] at hz hk hsl
  have hR2 := hR.2.1
  have hS1 : va_S (fun q => (xG X).1.1 ≤ q) (xS X).heap T'.heap (locs ++ L') := ⟨Nat.le_trans hS.1 (by rw [e1]; exact hz), fun q h1 h2 => by rw [e1, hk q (Nat.lt_of_lt_of_le h1 hS.1) h2]; exact hS.2.1 q h1 h2, fun q hq => by
      rcases List.mem_append.mp hq with h | h
      · exact hS.2.2 q h
      · exact hL q h⟩
  obtain ⟨t2, a1, b1⟩ := W.tight (kk T'.heap (locs ++ L') ls (by rw [e1]; exact hRep.with (by omega)) hS1 hl) T' rfl X'
  exact ⟨t2, st t2 a1, b1⟩
/-- an interface's method, of a made object -/
theorem x_callF (O : XOk X cc own F Lo) {ρ2 : Type} {enc2 : ρ2 → Option Value} {g : Option (ρ2 × XS)} {k : ρ2 → XS → Option (ρ × XS)} {x y : MethodName} {bytes : ByteArray} {mL index count fr lo ci : Nat} {ret : Option FieldType} {av : List Value} {q : vw_C} (n : Nat)
    (hM : ∀ v t, g = some (v, t) → xMet (xL X) y (ws_ y bytes mL ret) fr lo (xG X) (xI σ) (.ref a :: av) (enc2 v) (xI t)) (hG : GoodIn lw_all (va_wsF own index q.1 x y (ws_ y bytes mL ret))) (hF : va_Fw q.1 x y (xS X)) (hd0 : x.cls ≠ "java/lang/invoke/MethodHandle" ∧ x.cls ≠ "java/lang/invoke/VarHandle" ∧ (parseMethodDescriptor x.desc).map (fun d => d.parameters.length) = some n)
    (hroom : fr + 1 ≤ F ∧ 8 + (mL + 11) + lo ≤ Lo) (hq : xcl[ci]? = some q) (hn : av.length = n) (hrest : (rest.map fun v => v.category).sum ≤ 8) (hd : decode cc pc = .ok (.invokeinterface index count, 5))
    (kk : ∀ v t, Sim X xI C (pc + 5) L ((enc2 v).toList ++ rest) t (k v t)) : Sim X xI C pc L (av.reverse ++ .ref a :: rest) σ (xo σ a ci fun _ => bnd g k) := by
  intro v t hr hc
  obtain ⟨fs, ha, hr⟩ := xo_ex hr
  obtain ⟨v2, t2, h1, h2⟩ := bnd_ex hr
  have kk1 := kk v2 t2 v t h2 hc
  intro H locs ls hR hS hl
  refine W.withSlots fun hsl => ?_
  exact xRun5_go (va_runF (C := q.1) (As := av) (rest := rest) (O.hK.1.1 ci q hq).2 ⟨O.hx, O.hb, rfl, O.hown, O.hts⟩ (hM v2 t2 h1) (va_cwF n O.hts hG rfl rfl rfl hF hd0 ⟨Nat.le_trans hroom.1 O.hF.1, Nat.le_trans hroom.2 O.hF.2⟩) ⟨xPre.blind, va_recv (tys := []) O.hK.1 (hR.obj ha) hq (q0 := 0) rfl, fun U hU hW => ⟨rfl, O.pre hR hS U hU hW⟩⟩ rfl hn hl.1 rfl (lv_room hrest) hd (O.roomy hR hS hsl)) hR hS hl kk1
theorem x_cast (O : XOk X cc own F Lo) {index ci : Nat} {q : vw_C} (hq : xcl[ci]? = some q) (hlink : Cond.classLink own index q.1 ∈ lw_all) (hd : decode cc pc = .ok (.checkcast index, 3)) (kk : Sim X xI C (pc + 3) L (.ref a :: rest) σ rem) : Sim X xI C pc L (.ref a :: rest) σ (xo σ a ci fun _ => rem) := by
  intro v t hr hc
  obtain ⟨fs, ha, hr⟩ := xo_ex hr
  exact fun H locs ls hR hS hl => va_castS O.hx O.hb O.hown (O.hts _ hlink) (O.hK.1.1 ci q hq).2 (va_recv (tys := []) O.hK.1 (hR.obj ha) hq (q0 := 0) rfl) hd (kk v t hr hc H locs ls hR hS hl)
theorem x_inst (O : XOk X cc own F Lo) {index ci : Nat} {q : vw_C} (hq : xcl[ci]? = some q) (hlink : Cond.classLink own index q.1 ∈ lw_all) (hd : decode cc pc = .ok (.instanceof index, 3)) (kk : Sim X xI C (pc + 3) L (.int 1 :: rest) σ rem) : Sim X xI C pc L (.ref a :: rest) σ (xo σ a ci fun _ => rem) := by
  intro v t hr hc
  obtain ⟨fs, ha, hr⟩ := xo_ex hr
  exact fun H locs ls hR hS hl => va_instS O.hx O.hb O.hown (O.hts _ hlink) (O.hK.1.1 ci q hq).2 (va_recv (tys := []) O.hK.1 (hR.obj ha) hq (q0 := 0) rfl) hd (kk v t hr hc H locs ls hR hS hl)
theorem x_getst (O : XOk X cc own F Lo) {index j : Nat} {Cn n d ref : String} (hZ : va_Z Cn n d (va_rf ((xG X).1.2.2.2 j)) (fun q => (xG X).1.1 ≤ q) (xS X) (xS X).heap) (hq : Cond.fieldLink own index ref n d ∈ lw_all) (hsame : ∀ x, (xS X).fieldFound? Cn n d = some x → (xS X).fieldFound? ref n d = some x) (hd : decode cc pc = .ok (.getstatic index, 3)) (kk : Sim X xI C (pc + 3) L (va_rf (σ.1.2.2.2 j) :: rest) σ rem) : Sim X xI C pc L rest σ rem := by
  intro v t hr hc H locs ls hR hS hl
  refine va_gets O.hx O.hb hZ hS O.hown (O.hts _ hq) hsame hd ?_
  have h := kk v t hr hc H locs ls hR hS hl
  have e : σ.1 = (xG X).1 := hR.2.2.1
  rw [e] at h
  exact h
theorem x_getstI (O : XOk X cc own F Lo) {index : Nat} {x : Int32} {Cn n d ref : String} (hZ : va_Z Cn n d (.int x) (fun q => (xG X).1.1 ≤ q) (xS X) (xS X).heap) (hq : Cond.fieldLink own index ref n d ∈ lw_all) (hsame : ∀ x, (xS X).fieldFound? Cn n d = some x → (xS X).fieldFound? ref n d = some x) (hd : decode cc pc = .ok (.getstatic index, 3)) (kk : Sim X xI C (pc + 3) L (.int x :: rest) σ rem) : Sim X xI C pc L rest σ rem := by
  intro v t hr hc H locs ls hR hS hl
  exact va_gets O.hx O.hb hZ hS O.hown (O.hts _ hq) hsame hd (kk v t hr hc H locs ls hR hS hl)
theorem x_ldcS (O : XOk X cc own F Lo) {index j : Nat} {tx : String} (hZ : ∃ b, (xG X).1.2.2.2 j = some b ∧ vk_R own index tx b (xS X)) (hd : decode cc pc = .ok (.ldc index, 2)) (kk : Sim X xI C (pc + 2) L (va_rf (σ.1.2.2.2 j) :: rest) σ rem) : Sim X xI C pc L rest σ rem := by
  obtain ⟨b, hb, hZ⟩ := hZ
  intro v t hr hc H locs ls hR hS hl
  refine va_ldcS O.hx O.hb O.hown hZ hd ?_
  have h := kk v t hr hc H locs ls hR hS hl
  have e : σ.1 = (xG X).1 := hR.2.2.1
  rw [e, hb] at h
  exact h
theorem s_areturnQ {S : Type} {E : S → XS} {s : S} {enc : ρ → Option Value} {v : ρ} (O : XOk X cc own F Lo) {r : Option Nat} {rt : FieldType} (hr : (xMeth X).sig.returnType = some rt) (hrt : (∃ n, rt = .object n) ∨ ∃ t, rt = .array t) (he : enc v = some (va_rf r)) (hd : decode cc pc = .ok (.areturn, 1)) : Sim X E (retC X enc E) pc L [va_rf r] s (some (v, s)) :=
  s_areturn O (by cases r with | none => exact Or.inl rfl | some b => exact Or.inr ⟨b, rfl⟩) hr hrt he hd
end XC1
section Copy
variable {ρ : Type} {X : XC} {cc : ByteArray} {own : String} {F Lo : Nat} {C : ρ → XS → Prop} {pc : Nat} {L : List (Nat × Value)} {rest : List Value} {σ : XS} {a : Nat}
/-- System.arraycopy between two arrays of one kind -/
theorem c_acopy (O : XOk X cc own F Lo) {α : Type} (mk : α → Value) (mkA : Nat → (Nat → α) → vp_A) (hmk : ∀ cA n (f : Nat → α), vp_cell cA (mkA n f) = arrV cA n (fun j => mk (f j))) {t b index n0 n1 : Nat} {ty : FieldType} (ht : xty[t]? = some ty) {f g : Nat → α} {sp dp n : Int32} (hz : (xG X).1.1 ≤ a)
    (hb0 : σ.2.2.2 b = some (.inl (t, mkA n0 f))) (ha0 : σ.2.2.2 a = some (.inl (t, mkA n1 g))) (h1 : ¬ sp < 0) (h2 : ¬ dp < 0) (h3 : ¬ n < 0) (h4 : sp.toNatClampNeg + n.toNatClampNeg ≤ n0) (h5 : dp.toNatClampNeg + n.toNatClampNeg ≤ n1)
    (hel : ∀ (T : State) (vm' : Vm) (kA : Class) (comp : ClassId) (ty' : FieldType), Rep (xD X) (xG X) σ T.heap → (xS X).vm.Alike vm' → (xS X).vm.classes[(xG X).2.2.1 t]? = some kA → kA.kind = .array comp ty' → ∀ i, i < n.toNatClampNeg → fits ty' (mk (f (sp.toNatClampNeg + i))) = true ∧ (T.setVm vm').takes comp (mk (f (sp.toNatClampNeg + i))))
    (hlink : Cond.methodLink own index arraycopyName ∈ lw_all) (hnat : Cond.native arraycopyName ∈ lw_all) (hst : Cond.static arraycopyName ∈ lw_all) (hini : Cond.initialized "java/lang/System" ∈ lw_all) (hroom : 1 ≤ F ∧ 8 + (nativeFrameWords "java/lang/System" "arraycopy" 5 + 11) ≤ Lo) (hrest : (rest.map fun v => v.category).sum ≤ 8) (hd : decode cc pc = .ok (.invokestatic index, 3))
    (kk : xWX X (pc + 3) L rest (xup σ a (.inl (t, mkA n1 (va_cpy f g sp.toNatClampNeg dp.toNatClampNeg n.toNatClampNeg))))) : xWX X pc L (.int n :: .int dp :: .ref a :: .int sp :: .ref b :: rest) σ := by
  have nn : ∀ z : Int32, ¬ z < 0 → z.toInt = (z.toNatClampNeg : Int) := by
    intro z hz
    have hz0 : (0 : Int) ≤ z.toInt := by
      have := Int32.not_lt.mp hz
      simpa using Int32.le_iff_toInt_le.mp this
    show z.toInt = ((z.toInt.toNat : Nat) : Int)
    omega
  intro H locs ls hR hS hl T hT Y
  have hc0 : H[b]? = some (vp_cell ((xG X).2.2.1 t) (mkA n0 f)) := hR.at hb0
  have hc1 : H[a]? = some (vp_cell ((xG X).2.2.1 t) (mkA n1 g)) := hR.at ha0
  obtain ⟨-, k0, hk0, cm0, hkk0⟩ := (O.hK.2 t _ ht).1 0 (fun _ => .null)
  have hlen : ∀ n (f : Nat → α), (vp_cell ((xG X).2.2.1 t) (mkA n f)).slots.size = n := fun n f => by rw [hmk, arrV_size]
  have hvm0 : ∀ n (f : Nat → α), (vp_cell ((xG X).2.2.1 t) (mkA n f)).vm = .none := fun n f => by rw [hmk]; rfl
  have hcls0 : ∀ n (f : Nat → α), (vp_cell ((xG X).2.2.1 t) (mkA n f)).cls = (xG X).2.2.1 t := fun n f => by rw [hmk]; rfl
  obtain ⟨vm', X', step⟩ := Y.arraycopy O.hx O.hown (O.hts _ hlink) (O.hts _ hnat) (O.hts _ hst) (O.hts _ hini) (src := b) (dst := a) (cs := vp_cell ((xG X).2.2.1 t) (mkA n0 f)) (cd := vp_cell ((xG X).2.2.1 t) (mkA n1 g)) (srcPos := sp) (destPos := dp) (n := n) (by rw [hT]; exact hc0) (by rw [hT]; exact hc1)
    (fun _ h => by rw [hvm0] at h; cases h) (fun _ h => by rw [hvm0] at h; cases h) (fun h => by rw [hvm0] at h; cases h) (fun h => by rw [hvm0] at h; cases h) (by rw [hcls0]; exact hk0) (by rw [hcls0]; exact hk0) hkk0 hkk0 (by simp) h1 h2 h3
    (by rw [nn sp h1, nn n h3, hlen]; omega) (by rw [nn dp h2, nn n h3, hlen]; omega)
    (fun vm₁ hal i hi => by
      have e : (vp_cell ((xG X).2.2.1 t) (mkA n0 f)).slots.getD (sp.toNatClampNeg + i) .null = mk (f (sp.toNatClampNeg + i)) := by
        rw [hmk, Array.getD_eq_getD_getElem?, arrV_read _ _ (by omega)]
        rfl
      rw [e]
      exact hel T vm₁ k0 cm0 ty (by rw [hT]; exact hR) hal hk0 hkk0 i hi)
    (g := F0 (xM X) pc ls (.int n :: .int dp :: .ref a :: .int sp :: .ref b :: rest)) rfl hl.1 (rest := rest) rfl (by rw [O.hb]; exact hd) (Nat.le_trans hroom.1 O.hF.1) (by
      have hF := O.hF.2
      show 2 * 0 + _ + _ ≤ _
      omega)
  have e1 : copied (vp_cell ((xG X).2.2.1 t) (mkA n0 f)) (vp_cell ((xG X).2.2.1 t) (mkA n1 g)) sp dp n = vp_cell ((xG X).2.2.1 t) (mkA n1 (va_cpy f g sp.toNatClampNeg dp.toNatClampNeg n.toNatClampNeg)) := by
    rw [hmk, hmk, hmk]
    exact va_copied mk _ _ f g h4
  rw [e1] at X' step
  have hla : a < H.size := (Array.getElem?_eq_some_iff.mp hc1).1
  have hheap : ((T.setVm vm').setCell a (vp_cell ((xG X).2.2.1 t) (mkA n1 (va_cpy f g sp.toNatClampNeg dp.toNatClampNeg n.toNatClampNeg)))).heap = H.setIfInBounds a (vp_cell ((xG X).2.2.1 t) (mkA n1 (va_cpy f g sp.toNatClampNeg dp.toNatClampNeg n.toNatClampNeg))) := by rw [← hT]; rfl
  have oq : ∀ q : Nat, q ≠ a → (H.setIfInBounds a (vp_cell ((xG X).2.2.1 t) (mkA n1 (va_cpy f g sp.toNatClampNeg dp.toNatClampNeg n.toNatClampNeg))))[q]? = H[q]? := fun q hq => by simp [Array.getElem?_setIfInBounds, Ne.symm hq]
  have eq1 : (H.setIfInBounds a (vp_cell ((xG X).2.2.1 t) (mkA n1 (va_cpy f g sp.toNatClampNeg dp.toNatClampNeg n.toNatClampNeg))))[a]? = some (vp_cell ((xG X).2.2.1 t) (mkA n1 (va_cpy f g sp.toNatClampNeg dp.toNatClampNeg n.toNatClampNeg))) := by simp [Array.getElem?_setIfInBounds, hla]
  have hR1 : Rep (xD X) (xG X) (xup σ a (.inl (t, mkA n1 (va_cpy f g sp.toNatClampNeg dp.toNatClampNeg n.toNatClampNeg)))) (H.setIfInBounds a (vp_cell ((xG X).2.2.1 t) (mkA n1 (va_cpy f g sp.toNatClampNeg dp.toNatClampNeg n.toNatClampNeg)))) := hR.put (by simp) hc1 eq1 (by rw [hlen, hlen]) oq eq1
  obtain ⟨u, a1, b1⟩ := W.tight (kk _ (locs ++ ((vp_cell ((xG X).2.2.1 t) (mkA n0 f)).stretch sp.toNatClampNeg n.toNatClampNeg).zipIdx.map fun q => ⟨a, dp.toNatClampNeg + q.2⟩) ls hR1 ⟨by simp; exact hS.1, fun q g1 g2 => by
      rw [oq q (fun e => g2 (by rw [e]; exact hz))]
      exact hS.2.1 q g1 g2, fun q hq => by
      rcases List.mem_append.mp hq with h | h
      · exact hS.2.2 q h
      · obtain ⟨z, -, hz9⟩ := List.mem_map.mp h
        rw [← hz9]
        exact hz⟩ hl) _ hheap X'
  exact ⟨u, step u a1, b1⟩
end Copy
def xcI {β : Type} (σ : XS) (t b : Nat) (sp : Int32) (a : Nat) (dp n : Int32) (kk : XS → Option β) : Option β := match σ.2.2.2 b, σ.2.2.2 a with
  | some (.inl (u, n0, .inl f)), some (.inl (v, n1, .inl g)) => if u = t ∧ v = t ∧ σ.1.1 ≤ a ∧ ¬ sp < 0 ∧ ¬ dp < 0 ∧ ¬ n < 0 ∧ sp.toNatClampNeg + n.toNatClampNeg ≤ n0 ∧ dp.toNatClampNeg + n.toNatClampNeg ≤ n1 ∧ (t = 2 → ∀ i, i < n.toNatClampNeg → fits .byte (.int (f (sp.toNatClampNeg + i))) = true) then kk (xup σ a (cI t n1 (va_cpy f g sp.toNatClampNeg dp.toNatClampNeg n.toNatClampNeg))) else none
  | _, _ => none
def xcL {β : Type} (σ : XS) (b : Nat) (sp : Int32) (a : Nat) (dp n : Int32) (kk : XS → Option β) : Option β := match σ.2.2.2 b, σ.2.2.2 a with
  | some (.inl (u, n0, .inr (.inl f))), some (.inl (v, n1, .inr (.inl g))) => if u = 1 ∧ v = 1 ∧ σ.1.1 ≤ a ∧ ¬ sp < 0 ∧ ¬ dp < 0 ∧ ¬ n < 0 ∧ sp.toNatClampNeg + n.toNatClampNeg ≤ n0 ∧ dp.toNatClampNeg + n.toNatClampNeg ≤ n1 then kk (xup σ a (cL n1 (va_cpy f g sp.toNatClampNeg dp.toNatClampNeg n.toNatClampNeg))) else none
  | _, _ => none
def xcR {β : Type} (σ : XS) (b : Nat) (sp : Int32) (a : Nat) (dp n : Int32) (kk : XS → Option β) : Option β := match σ.2.2.2 b, σ.2.2.2 a with
  | some (.inl (u, n0, .inr (.inr (.inr (.inr f))))), some (.inl (v, n1, .inr (.inr (.inr (.inr g))))) => if u = 4 ∧ v = 4 ∧ σ.1.1 ≤ a ∧ ¬ sp < 0 ∧ ¬ dp < 0 ∧ ¬ n < 0 ∧ sp.toNatClampNeg + n.toNatClampNeg ≤ n0 ∧ dp.toNatClampNeg + n.toNatClampNeg ≤ n1 ∧ (∀ i, i < n.toNatClampNeg → okEl σ 4 (f (sp.toNatClampNeg + i)) = true) then kk (xup σ a (cR 4 n1 (va_cpy f g sp.toNatClampNeg dp.toNatClampNeg n.toNatClampNeg))) else none
  | _, _ => none
section Copy2
variable {ρ : Type} {X : XC} {cc : ByteArray} {own : String} {F Lo : Nat} {C : ρ → XS → Prop} {pc : Nat} {L : List (Nat × Value)} {rest : List Value} {σ : XS} {a : Nat}
theorem x_acI (O : XOk X cc own F Lo) {t b index : Nat} (ht : t = 0 ∨ t = 2) {sp dp n : Int32} {kv : XS → Option (ρ × XS)}
    (hlink : Cond.methodLink own index arraycopyName ∈ lw_all) (hnat : Cond.native arraycopyName ∈ lw_all) (hst : Cond.static arraycopyName ∈ lw_all) (hini : Cond.initialized "java/lang/System" ∈ lw_all) (hroom : 1 ≤ F ∧ 8 + (nativeFrameWords "java/lang/System" "arraycopy" 5 + 11) ≤ Lo) (hrest : (rest.map fun v => v.category).sum ≤ 8) (hd : decode cc pc = .ok (.invokestatic index, 3))
    (kk : ∀ s, Sim X xI C (pc + 3) L rest s (kv s)) : Sim X xI C pc L (.int n :: .int dp :: .ref a :: .int sp :: .ref b :: rest) σ (xcI σ t b sp a dp n kv) := by
  intro v u hr hC
  unfold xcI at hr
  split at hr
  · rename_i u0 n0 f v0 n1 g e0 e1
    split at hr
    · rename_i hc
      obtain ⟨rfl, rfl, hz, h1, h2, h3, h4, h5, h6⟩ := hc
      refine xWX.z fun hz0 => ?_
      have hz1 : (xG X).1.1 ≤ a := by rw [← hz0]; exact hz
      rcases ht with rfl | rfl
      · exact c_acopy O (fun z : Int32 => .int z) (fun n f => (n, .inl f)) (fun _ _ _ => rfl) (t := 0) (σ := σ) rfl hz1 e0 e1 h1 h2 h3 h4 h5 (fun T vm' kA comp ty' hR hal hk hkk i hi => by
          obtain ⟨-, k1, hk1, cm1, hkk1⟩ := (O.hK.2 0 _ rfl).1 0 (fun _ => .null)
          cases hk.symm.trans hk1
          cases hkk.symm.trans hkk1
          exact ⟨rfl, trivial⟩) hlink hnat hst hini hroom hrest hd (kk _ v u hr hC)
      · exact c_acopy O (fun z : Int32 => .int z) (fun n f => (n, .inl f)) (fun _ _ _ => rfl) (t := 2) (σ := σ) rfl hz1 e0 e1 h1 h2 h3 h4 h5 (fun T vm' kA comp ty' hR hal hk hkk i hi => by
          obtain ⟨-, k1, hk1, cm1, hkk1⟩ := (O.hK.2 2 _ rfl).1 0 (fun _ => .null)
          cases hk.symm.trans hk1
          cases hkk.symm.trans hkk1
          exact ⟨h6 rfl i hi, trivial⟩) hlink hnat hst hini hroom hrest hd (kk _ v u hr hC)
    · cases hr
  · cases hr
theorem x_acL (O : XOk X cc own F Lo) {b index : Nat} {sp dp n : Int32} {kv : XS → Option (ρ × XS)}
    (hlink : Cond.methodLink own index arraycopyName ∈ lw_all) (hnat : Cond.native arraycopyName ∈ lw_all) (hst : Cond.static arraycopyName ∈ lw_all) (hini : Cond.initialized "java/lang/System" ∈ lw_all) (hroom : 1 ≤ F ∧ 8 + (nativeFrameWords "java/lang/System" "arraycopy" 5 + 11) ≤ Lo) (hrest : (rest.map fun v => v.category).sum ≤ 8) (hd : decode cc pc = .ok (.invokestatic index, 3))
    (kk : ∀ s, Sim X xI C (pc + 3) L rest s (kv s)) : Sim X xI C pc L (.int n :: .int dp :: .ref a :: .int sp :: .ref b :: rest) σ (xcL σ b sp a dp n kv) := by
  intro v u hr hC
  unfold xcL at hr
  split at hr
  · rename_i u0 n0 f v0 n1 g e0 e1
    split at hr
    · rename_i hc
      obtain ⟨rfl, rfl, hz, h1, h2, h3, h4, h5⟩ := hc
      refine xWX.z fun hz0 => ?_
      have hz1 : (xG X).1.1 ≤ a := by rw [← hz0]; exact hz
      exact c_acopy O (fun z : Int64 => .long z) (fun n f => (n, .inr (.inl f))) (fun _ _ _ => rfl) (t := 1) (σ := σ) rfl hz1 e0 e1 h1 h2 h3 h4 h5 (fun T vm' kA comp ty' hR hal hk hkk i hi => by
          obtain ⟨-, k1, hk1, cm1, hkk1⟩ := (O.hK.2 1 _ rfl).1 0 (fun _ => .null)
          cases hk.symm.trans hk1
          cases hkk.symm.trans hkk1
          exact ⟨rfl, trivial⟩) hlink hnat hst hini hroom hrest hd (kk _ v u hr hC)
    · cases hr
  · cases hr
theorem x_acR (O : XOk X cc own F Lo) {b index : Nat} (hca : ∀ ci r, xcl[ci]? = some r → (ci == 1) || ((4 : Nat) == 4 && ci == 5) → xAsg r.1 "java/lang/Object" (xS X)) {sp dp n : Int32} {kv : XS → Option (ρ × XS)}
    (hlink : Cond.methodLink own index arraycopyName ∈ lw_all) (hnat : Cond.native arraycopyName ∈ lw_all) (hst : Cond.static arraycopyName ∈ lw_all) (hini : Cond.initialized "java/lang/System" ∈ lw_all) (hroom : 1 ≤ F ∧ 8 + (nativeFrameWords "java/lang/System" "arraycopy" 5 + 11) ≤ Lo) (hrest : (rest.map fun v => v.category).sum ≤ 8) (hd : decode cc pc = .ok (.invokestatic index, 3))
    (kk : ∀ s, Sim X xI C (pc + 3) L rest s (kv s)) : Sim X xI C pc L (.int n :: .int dp :: .ref a :: .int sp :: .ref b :: rest) σ (xcR σ b sp a dp n kv) := by
  intro v u hr hC
  unfold xcR at hr
  split at hr
  · rename_i u0 n0 f v0 n1 g e0 e1
    split at hr
    · rename_i hc
      obtain ⟨rfl, rfl, hz, h1, h2, h3, h4, h5, h6⟩ := hc
      refine xWX.z fun hz0 => ?_
      have hz1 : (xG X).1.1 ≤ a := by rw [← hz0]; exact hz
      exact c_acopy O (fun z : Option Nat => va_rf z) (fun n f => (n, .inr (.inr (.inr (.inr f))))) (fun _ _ _ => rfl) (t := 4) (σ := σ) rfl hz1 e0 e1 h1 h2 h3 h4 h5 (fun T vm' kA comp ty' hR hal hk hkk i hi => by
          have hok := h6 i hi
          obtain ⟨kA1, comp1, r1, r2, r3, -⟩ := (O.hK.2 4 _ rfl).2
          cases hk.symm.trans r1
          cases hkk.symm.trans r2
          cases hy : f (sp.toNatClampNeg + i) with
          | none => exact ⟨rfl, trivial⟩
          | some y =>
            rw [hy] at hok
            unfold okEl at hok
            simp only at hok
            split at hok
            · rename_i ci fs hw
              obtain ⟨r', hr', hlen, cellV, g1, g2, g3, -⟩ := hR.at hw
              have hcls := (O.hK.1.1 ci r' hr').2
              have f3 := hca ci r' hr' hok _ _ hcls.1 r3
              obtain ⟨kC, hkC, -⟩ := Vm.findClass_spec hcls.1
              obtain ⟨kE, hkE, -⟩ := Vm.findClass_spec r3
              obtain ⟨kC', hkC', -⟩ := hal.2.2 _ _ hkC
              obtain ⟨kE', hkE', -⟩ := hal.2.2 _ _ hkE
              refine ⟨rfl, cellV, g1, (fun q h => by rw [g3] at h; cases h), ⟨kC', by rw [g2]; exact hkC'⟩, ?_, ?_⟩
              · exact ⟨kE', hkE'⟩
              · show vm'.assignable _ _ = true
                rw [hal.assignable, g2]
                exact f3
            · cases hok) hlink hnat hst hini hroom hrest hd (kk _ v u hr hC)
    · cases hr
  · cases hr
end Copy2
