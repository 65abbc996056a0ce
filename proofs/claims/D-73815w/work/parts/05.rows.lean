/-! ROWS: 'Sim': where the pure side comes to an end, the machine does; a row an instruction -/
def Sim {S ρ : Type} (X : XC) (E : S → XS) (C : ρ → S → Prop) (pc : Nat) (L : List (Nat × Value)) (st : List Value) (σ : S) (rem : Option (ρ × S)) : Prop :=
  ∀ (v : ρ) (t : S), rem = some (v, t) → C v t → xWX X pc L st (E σ)
section Rows
variable {S ρ : Type} {X : XC} {cc : ByteArray} {own : String} {F Lo : Nat} {E : S → XS} {C : ρ → S → Prop} {pc : Nat} {L : List (Nat × Value)} {rest : List Value} {σ : S} {rem : Option (ρ × S)}
theorem Sim.ret {v : ρ} {st : List Value} (h : C v σ → xWX X pc L st (E σ)) : Sim X E C pc L st σ (some (v, σ)) := fun v' t hr hc => by
  cases hr
  exact h hc
theorem Sim.none {st : List Value} : Sim X E C pc L st σ none := fun v t hr => by cases hr
theorem Sim.nm {α : Type} {e : α} {k : α → Option (ρ × S)} {st : α → List Value} (h : ∀ x, Sim X E C pc L (st x) σ (k x)) : Sim X E C pc L (st e) σ (nm e k) := h e
theorem s_nmi {x : Int32} {k : Int32 → Option (ρ × S)} (h : ∀ y, Sim X E C pc L (.int y :: rest) σ (k y)) : Sim X E C pc L (.int x :: rest) σ (nm x k) := h x
theorem s_nml {x : Int64} {k : Int64 → Option (ρ × S)} (h : ∀ y, Sim X E C pc L (.long y :: rest) σ (k y)) : Sim X E C pc L (.long x :: rest) σ (nm x k) := h x
theorem Sim.chk {c : Prop} [Decidable c] {st : List Value} (h : c → Sim X E C pc L st σ rem) : Sim X E C pc L st σ (chk c rem) := fun v t hr hc => by
  obtain ⟨h1, h2⟩ := chk_ex hr
  exact h h1 v t h2 hc
theorem Sim.ite {c : Prop} [Decidable c] {st : List Value} {a b : Option (ρ × S)} (ha : c → Sim X E C pc L st σ a) (hb : ¬ c → Sim X E C pc L st σ b) : Sim X E C pc L st σ (if c then a else b) := by
  by_cases h : c
  · rw [if_pos h]; exact ha h
  · rw [if_neg h]; exact hb h
/-- what is known of the locals, less -/
theorem Sim.sub {L' : List (Nat × Value)} {st : List Value} (ks : List Nat) (hl : lv_pick L ks = L') (h : Sim X E C pc L' st σ rem) : Sim X E C pc L st σ rem := fun v t hr hc H locs ls hR hS hL => h v t hr hc H locs ls hR hS (lv_sub hL ks hl)
theorem s_iconst (O : XOk X cc own F Lo) {n : Int} {x : Int32} (hv : Int32.ofInt n = x) (hd : decode cc pc = .ok (.iconst n, 1)) (k : Sim X E C (pc + 1) L (.int x :: rest) σ rem) : Sim X E C pc L (rest) σ rem := fun v t hr hc H locs ls hR hS hl => lv_iconst O.hx O.hb hd hv (k v t hr hc H locs ls hR hS hl)
theorem s_bipush (O : XOk X cc own F Lo) {n : Int} {x : Int32} (hv : (Int8.ofInt n).toInt32 = x) (hd : decode cc pc = .ok (.bipush n, 2)) (k : Sim X E C (pc + 2) L (.int x :: rest) σ rem) : Sim X E C pc L (rest) σ rem := fun v t hr hc H locs ls hR hS hl => lv_bipush O.hx O.hb hd hv (k v t hr hc H locs ls hR hS hl)
theorem s_sipush (O : XOk X cc own F Lo) {n : Int} {x : Int32} (hv : (Int16.ofInt n).toInt32 = x) (hd : decode cc pc = .ok (.sipush n, 3)) (k : Sim X E C (pc + 3) L (.int x :: rest) σ rem) : Sim X E C pc L (rest) σ rem := fun v t hr hc H locs ls hR hS hl => lv_sipush O.hx O.hb hd hv (k v t hr hc H locs ls hR hS hl)
theorem s_lconst (O : XOk X cc own F Lo) {n : Fin 2} {x : Int64} (hv : Int64.ofNat (n : Nat) = x) (hd : decode cc pc = .ok (.lconst n, 1)) (k : Sim X E C (pc + 1) L (.long x :: rest) σ rem) : Sim X E C pc L (rest) σ rem := fun v t hr hc H locs ls hR hS hl => lv_lconst O.hx O.hb hd hv (k v t hr hc H locs ls hR hS hl)
theorem s_null (O : XOk X cc own F Lo)  (hd : decode cc pc = .ok (.aconst_null, 1)) (k : Sim X E C (pc + 1) L (.null :: rest) σ rem) : Sim X E C pc L (rest) σ rem := fun v t hr hc H locs ls hR hS hl => lv_null O.hx O.hb hd (k v t hr hc H locs ls hR hS hl)
theorem s_ldc (O : XOk X cc own F Lo) {i : Nat} {x : Int32} (hq : Jvm.Cond.constant own i x ∈ lw_all) (hd : decode cc pc = .ok (.ldc i, 2)) (k : Sim X E C (pc + 2) L (.int x :: rest) σ rem) : Sim X E C pc L rest σ rem := fun v t hr hc H locs ls hR hS hl => lv_ldc O.hx O.hb O.hown (O.hts _ hq) hd (k v t hr hc H locs ls hR hS hl)
theorem s_ldc2 (O : XOk X cc own F Lo) {i : Nat} {x : Int64} (hq : Jvm.Cond.constantLong own i x ∈ lw_all) (hd : decode cc pc = .ok (.ldc2_w i, 3)) (k : Sim X E C (pc + 3) L (.long x :: rest) σ rem) : Sim X E C pc L rest σ rem := fun v t hr hc H locs ls hR hS hl => lv_ldc2 O.hx O.hb O.hown (O.hts _ hq) hd (k v t hr hc H locs ls hR hS hl)
theorem s_iload_n (O : XOk X cc own F Lo) {n : Fin 4} {i : Nat} {x : Int32} (j : Nat) (hj : L[j]? = some (i, .int x)) (hi : (n : Nat) = i) (hd : decode cc pc = .ok (.iload_n n, 1)) (k : Sim X E C (pc + 1) L (.int x :: rest) σ rem) : Sim X E C pc L rest σ rem := fun v t hr hc H locs ls hR hS hl => lv_iload_n O.hx O.hb hd hi (lv_at hl j hj) (k v t hr hc H locs ls hR hS hl)
theorem s_iload (O : XOk X cc own F Lo) {i : Nat} {x : Int32} (j : Nat) (hj : L[j]? = some (i, .int x)) (hd : decode cc pc = .ok (.iload i, 2)) (k : Sim X E C (pc + 2) L (.int x :: rest) σ rem) : Sim X E C pc L rest σ rem := fun v t hr hc H locs ls hR hS hl => lv_iload O.hx O.hb hd (lv_at hl j hj) (k v t hr hc H locs ls hR hS hl)
theorem s_lload_n (O : XOk X cc own F Lo) {n : Fin 4} {i : Nat} {x : Int64} (j : Nat) (hj : L[j]? = some (i, .long x)) (hi : (n : Nat) = i) (hd : decode cc pc = .ok (.lload_n n, 1)) (k : Sim X E C (pc + 1) L (.long x :: rest) σ rem) : Sim X E C pc L rest σ rem := fun v t hr hc H locs ls hR hS hl => lv_lload_n O.hx O.hb hd hi (lv_at hl j hj) (k v t hr hc H locs ls hR hS hl)
theorem s_lload (O : XOk X cc own F Lo) {i : Nat} {x : Int64} (j : Nat) (hj : L[j]? = some (i, .long x)) (hd : decode cc pc = .ok (.lload i, 2)) (k : Sim X E C (pc + 2) L (.long x :: rest) σ rem) : Sim X E C pc L rest σ rem := fun v t hr hc H locs ls hR hS hl => lv_lload O.hx O.hb hd (lv_at hl j hj) (k v t hr hc H locs ls hR hS hl)
theorem s_aload_n (O : XOk X cc own F Lo) {n : Fin 4} {i : Nat} {x : Nat} (j : Nat) (hj : L[j]? = some (i, .ref x)) (hi : (n : Nat) = i) (hd : decode cc pc = .ok (.aload_n n, 1)) (k : Sim X E C (pc + 1) L (.ref x :: rest) σ rem) : Sim X E C pc L rest σ rem := fun v t hr hc H locs ls hR hS hl => lv_aload_n O.hx O.hb hd hi (lv_at hl j hj) (k v t hr hc H locs ls hR hS hl)
theorem s_aload (O : XOk X cc own F Lo) {i : Nat} {x : Nat} (j : Nat) (hj : L[j]? = some (i, .ref x)) (hd : decode cc pc = .ok (.aload i, 2)) (k : Sim X E C (pc + 2) L (.ref x :: rest) σ rem) : Sim X E C pc L rest σ rem := fun v t hr hc H locs ls hR hS hl => lv_aload O.hx O.hb hd (lv_at hl j hj) (k v t hr hc H locs ls hR hS hl)
theorem s_istore_n (O : XOk X cc own F Lo) {n : Fin 4} {i nL : Nat} {x : Int32} {L' : List (Nat × Value)} (hm : (xC X).maxLocals = nL) (hn : i < nL) (hi : (n : Nat) = i) (hl' : (i, Value.int x) :: L.filter (fun q => !(q.1 == i) && !(q.1 + 1 == i && q.2.category == 2)) = L') (hd : decode cc pc = .ok (.istore_n n, 1)) (k : Sim X E C (pc + 1) L' rest σ rem) : Sim X E C pc L (.int x :: rest) σ rem := fun v t hr hc H locs ls hR hS hl => lv_istore_n O.hx O.hb hd hi hl (by rw [hm]; exact hn) hl' (fun ls' h' => k v t hr hc H locs ls' hR hS h')
theorem s_istore (O : XOk X cc own F Lo) {i nL : Nat} {x : Int32} {L' : List (Nat × Value)} (hm : (xC X).maxLocals = nL) (hn : i < nL) (hl' : (i, Value.int x) :: L.filter (fun q => !(q.1 == i) && !(q.1 + 1 == i && q.2.category == 2)) = L') (hd : decode cc pc = .ok (.istore i, 2)) (k : Sim X E C (pc + 2) L' rest σ rem) : Sim X E C pc L (.int x :: rest) σ rem := fun v t hr hc H locs ls hR hS hl => lv_istore O.hx O.hb hd hl (by rw [hm]; exact hn) hl' (fun ls' h' => k v t hr hc H locs ls' hR hS h')
theorem s_lstore_n (O : XOk X cc own F Lo) {n : Fin 4} {i nL : Nat} {x : Int64} {L' : List (Nat × Value)} (hm : (xC X).maxLocals = nL) (hn : i + 1 < nL) (hi : (n : Nat) = i) (hl' : (i, Value.long x) :: L.filter (fun q => !(q.1 == i) && (!(q.1 == i + 1) && !(q.1 + 1 == i && q.2.category == 2))) = L') (hd : decode cc pc = .ok (.lstore_n n, 1)) (k : Sim X E C (pc + 1) L' rest σ rem) : Sim X E C pc L (.long x :: rest) σ rem := fun v t hr hc H locs ls hR hS hl => lv_lstore_n O.hx O.hb hd hi hl (by rw [hm]; exact hn) hl' (fun ls' h' => k v t hr hc H locs ls' hR hS h')
theorem s_lstore (O : XOk X cc own F Lo) {i nL : Nat} {x : Int64} {L' : List (Nat × Value)} (hm : (xC X).maxLocals = nL) (hn : i + 1 < nL) (hl' : (i, Value.long x) :: L.filter (fun q => !(q.1 == i) && (!(q.1 == i + 1) && !(q.1 + 1 == i && q.2.category == 2))) = L') (hd : decode cc pc = .ok (.lstore i, 2)) (k : Sim X E C (pc + 2) L' rest σ rem) : Sim X E C pc L (.long x :: rest) σ rem := fun v t hr hc H locs ls hR hS hl => lv_lstore O.hx O.hb hd hl (by rw [hm]; exact hn) hl' (fun ls' h' => k v t hr hc H locs ls' hR hS h')
theorem s_astore_n (O : XOk X cc own F Lo) {n : Fin 4} {i nL : Nat} {x : Nat} {L' : List (Nat × Value)} (hm : (xC X).maxLocals = nL) (hn : i < nL) (hi : (n : Nat) = i) (hl' : (i, Value.ref x) :: L.filter (fun q => !(q.1 == i) && !(q.1 + 1 == i && q.2.category == 2)) = L') (hd : decode cc pc = .ok (.astore_n n, 1)) (k : Sim X E C (pc + 1) L' rest σ rem) : Sim X E C pc L (.ref x :: rest) σ rem := fun v t hr hc H locs ls hR hS hl => lv_astore_n O.hx O.hb hd hi hl (by rw [hm]; exact hn) hl' (fun ls' h' => k v t hr hc H locs ls' hR hS h')
theorem s_astore (O : XOk X cc own F Lo) {i nL : Nat} {x : Nat} {L' : List (Nat × Value)} (hm : (xC X).maxLocals = nL) (hn : i < nL) (hl' : (i, Value.ref x) :: L.filter (fun q => !(q.1 == i) && !(q.1 + 1 == i && q.2.category == 2)) = L') (hd : decode cc pc = .ok (.astore i, 2)) (k : Sim X E C (pc + 2) L' rest σ rem) : Sim X E C pc L (.ref x :: rest) σ rem := fun v t hr hc H locs ls hR hS hl => lv_astore O.hx O.hb hd hl (by rw [hm]; exact hn) hl' (fun ls' h' => k v t hr hc H locs ls' hR hS h')
theorem s_iinc (O : XOk X cc own F Lo) {i nL : Nat} {n : Int} {x y : Int32} {L' : List (Nat × Value)} (j : Nat) (hj : L[j]? = some (i, .int x)) (hm : (xC X).maxLocals = nL) (hn : i < nL) (hy : x + Int32.ofInt n = y) (hl' : (i, Value.int y) :: L.filter (fun q => !(q.1 == i) && !(q.1 + 1 == i && q.2.category == 2)) = L') (hd : decode cc pc = .ok (.iinc i n, 3)) (k : Sim X E C (pc + 3) L' rest σ rem) : Sim X E C pc L rest σ rem := fun v t hr hc H locs ls hR hS hl => lv_iinc O.hx O.hb hd hl hj hy (by rw [hm]; exact hn) hl' (fun ls' h' => k v t hr hc H locs ls' hR hS h')
theorem s_aload_nQ (O : XOk X cc own F Lo) {n : Fin 4} {i : Nat} {r : Option Nat} (j : Nat) (hj : L[j]? = some (i, va_rf r)) (hi : (n : Nat) = i) (hd : decode cc pc = .ok (.aload_n n, 1)) (k : Sim X E C (pc + 1) L (va_rf r :: rest) σ rem) : Sim X E C pc L rest σ rem := fun v t hr hc H locs ls hR hS hl => by
  cases r with
  | none => exact lv_aload_nN O.hx O.hb hd hi (lv_at hl j hj) (k v t hr hc H locs ls hR hS hl)
  | some x => exact lv_aload_n O.hx O.hb hd hi (lv_at hl j hj) (k v t hr hc H locs ls hR hS hl)
theorem s_aloadQ (O : XOk X cc own F Lo) {i : Nat} {r : Option Nat} (j : Nat) (hj : L[j]? = some (i, va_rf r)) (hd : decode cc pc = .ok (.aload i, 2)) (k : Sim X E C (pc + 2) L (va_rf r :: rest) σ rem) : Sim X E C pc L rest σ rem := fun v t hr hc H locs ls hR hS hl => by
  cases r with
  | none => exact lv_aloadN O.hx O.hb hd (lv_at hl j hj) (k v t hr hc H locs ls hR hS hl)
  | some x => exact lv_aload O.hx O.hb hd (lv_at hl j hj) (k v t hr hc H locs ls hR hS hl)
theorem s_astore_nQ (O : XOk X cc own F Lo) {i nL : Nat} {r : Option Nat} {L' : List (Nat × Value)} {n : Fin 4} (hi : (n : Nat) = i) (hm : (xC X).maxLocals = nL) (hn : i < nL) (hl' : ∀ w : Value, (i, w) :: L.filter (fun q => !(q.1 == i) && !(q.1 + 1 == i && q.2.category == 2)) = (i, w) :: L') (hd : decode cc pc = .ok (.astore_n n, 1)) (k : Sim X E C (pc + 1) ((i, va_rf r) :: L') rest σ rem) : Sim X E C pc L (va_rf r :: rest) σ rem := fun v t hr hc H locs ls hR hS hl => by
  cases r with
  | none => exact lv_astore_nN O.hx O.hb hd hi hl (by rw [hm]; exact hn) (hl' .null) (fun ls' h' => k v t hr hc H locs ls' hR hS h')
  | some x => exact lv_astore_n O.hx O.hb hd hi hl (by rw [hm]; exact hn) (hl' (.ref x)) (fun ls' h' => k v t hr hc H locs ls' hR hS h')
theorem s_astoreQ (O : XOk X cc own F Lo) {i nL : Nat} {r : Option Nat} {L' : List (Nat × Value)} (hm : (xC X).maxLocals = nL) (hn : i < nL) (hl' : ∀ w : Value, (i, w) :: L.filter (fun q => !(q.1 == i) && !(q.1 + 1 == i && q.2.category == 2)) = (i, w) :: L') (hd : decode cc pc = .ok (.astore i, 2)) (k : Sim X E C (pc + 2) ((i, va_rf r) :: L') rest σ rem) : Sim X E C pc L (va_rf r :: rest) σ rem := fun v t hr hc H locs ls hR hS hl => by
  cases r with
  | none => exact lv_astoreN O.hx O.hb hd hl (by rw [hm]; exact hn) (hl' .null) (fun ls' h' => k v t hr hc H locs ls' hR hS h')
  | some x => exact lv_astore O.hx O.hb hd hl (by rw [hm]; exact hn) (hl' (.ref x)) (fun ls' h' => k v t hr hc H locs ls' hR hS h')
theorem s_iadd (O : XOk X cc own F Lo) {x y : Int32} (hd : decode cc pc = .ok (.iadd, 1)) (k : Sim X E C (pc + 1) L (.int (x + y) :: rest) σ rem) : Sim X E C pc L (.int y :: .int x :: rest) σ rem := fun v t hr hc H locs ls hR hS hl => lv_iadd O.hx O.hb hd (k v t hr hc H locs ls hR hS hl)
theorem s_isub (O : XOk X cc own F Lo) {x y : Int32} (hd : decode cc pc = .ok (.isub, 1)) (k : Sim X E C (pc + 1) L (.int (x - y) :: rest) σ rem) : Sim X E C pc L (.int y :: .int x :: rest) σ rem := fun v t hr hc H locs ls hR hS hl => lv_isub O.hx O.hb hd (k v t hr hc H locs ls hR hS hl)
theorem s_imul (O : XOk X cc own F Lo) {x y : Int32} (hd : decode cc pc = .ok (.imul, 1)) (k : Sim X E C (pc + 1) L (.int (x * y) :: rest) σ rem) : Sim X E C pc L (.int y :: .int x :: rest) σ rem := fun v t hr hc H locs ls hR hS hl => lv_imul O.hx O.hb hd (k v t hr hc H locs ls hR hS hl)
theorem s_iand (O : XOk X cc own F Lo) {x y : Int32} (hd : decode cc pc = .ok (.iand, 1)) (k : Sim X E C (pc + 1) L (.int (x &&& y) :: rest) σ rem) : Sim X E C pc L (.int y :: .int x :: rest) σ rem := fun v t hr hc H locs ls hR hS hl => lv_iand O.hx O.hb hd (k v t hr hc H locs ls hR hS hl)
theorem s_ior (O : XOk X cc own F Lo) {x y : Int32} (hd : decode cc pc = .ok (.ior, 1)) (k : Sim X E C (pc + 1) L (.int (x ||| y) :: rest) σ rem) : Sim X E C pc L (.int y :: .int x :: rest) σ rem := fun v t hr hc H locs ls hR hS hl => lv_ior O.hx O.hb hd (k v t hr hc H locs ls hR hS hl)
theorem s_ixor (O : XOk X cc own F Lo) {x y : Int32} (hd : decode cc pc = .ok (.ixor, 1)) (k : Sim X E C (pc + 1) L (.int (x ^^^ y) :: rest) σ rem) : Sim X E C pc L (.int y :: .int x :: rest) σ rem := fun v t hr hc H locs ls hR hS hl => lv_ixor O.hx O.hb hd (k v t hr hc H locs ls hR hS hl)
theorem s_ishl (O : XOk X cc own F Lo) {x y : Int32} (hd : decode cc pc = .ok (.ishl, 1)) (k : Sim X E C (pc + 1) L (.int (x <<< (y &&& 31)) :: rest) σ rem) : Sim X E C pc L (.int y :: .int x :: rest) σ rem := fun v t hr hc H locs ls hR hS hl => lv_ishl O.hx O.hb hd (k v t hr hc H locs ls hR hS hl)
theorem s_ishr (O : XOk X cc own F Lo) {x y : Int32} (hd : decode cc pc = .ok (.ishr, 1)) (k : Sim X E C (pc + 1) L (.int (x >>> (y &&& 31)) :: rest) σ rem) : Sim X E C pc L (.int y :: .int x :: rest) σ rem := fun v t hr hc H locs ls hR hS hl => lv_ishr O.hx O.hb hd (k v t hr hc H locs ls hR hS hl)
theorem s_iushr (O : XOk X cc own F Lo) {x y : Int32} (hd : decode cc pc = .ok (.iushr, 1)) (k : Sim X E C (pc + 1) L (.int ((x.toUInt32 >>> (y.toUInt32 &&& Int32.toUInt32 31)).toInt32) :: rest) σ rem) : Sim X E C pc L (.int y :: .int x :: rest) σ rem := fun v t hr hc H locs ls hR hS hl => lv_iushr O.hx O.hb hd rfl (k v t hr hc H locs ls hR hS hl)
theorem s_ladd (O : XOk X cc own F Lo) {x y : Int64} (hd : decode cc pc = .ok (.ladd, 1)) (k : Sim X E C (pc + 1) L (.long (x + y) :: rest) σ rem) : Sim X E C pc L (.long y :: .long x :: rest) σ rem := fun v t hr hc H locs ls hR hS hl => lv_ladd O.hx O.hb hd (k v t hr hc H locs ls hR hS hl)
theorem s_lsub (O : XOk X cc own F Lo) {x y : Int64} (hd : decode cc pc = .ok (.lsub, 1)) (k : Sim X E C (pc + 1) L (.long (x - y) :: rest) σ rem) : Sim X E C pc L (.long y :: .long x :: rest) σ rem := fun v t hr hc H locs ls hR hS hl => lv_lsub O.hx O.hb hd (k v t hr hc H locs ls hR hS hl)
theorem s_lmul (O : XOk X cc own F Lo) {x y : Int64} (hd : decode cc pc = .ok (.lmul, 1)) (k : Sim X E C (pc + 1) L (.long (x * y) :: rest) σ rem) : Sim X E C pc L (.long y :: .long x :: rest) σ rem := fun v t hr hc H locs ls hR hS hl => lv_lmul O.hx O.hb hd (k v t hr hc H locs ls hR hS hl)
theorem s_land (O : XOk X cc own F Lo) {x y : Int64} (hd : decode cc pc = .ok (.land, 1)) (k : Sim X E C (pc + 1) L (.long (x &&& y) :: rest) σ rem) : Sim X E C pc L (.long y :: .long x :: rest) σ rem := fun v t hr hc H locs ls hR hS hl => lv_land O.hx O.hb hd (k v t hr hc H locs ls hR hS hl)
theorem s_lor (O : XOk X cc own F Lo) {x y : Int64} (hd : decode cc pc = .ok (.lor, 1)) (k : Sim X E C (pc + 1) L (.long (x ||| y) :: rest) σ rem) : Sim X E C pc L (.long y :: .long x :: rest) σ rem := fun v t hr hc H locs ls hR hS hl => lv_lor O.hx O.hb hd (k v t hr hc H locs ls hR hS hl)
theorem s_lxor (O : XOk X cc own F Lo) {x y : Int64} (hd : decode cc pc = .ok (.lxor, 1)) (k : Sim X E C (pc + 1) L (.long (x ^^^ y) :: rest) σ rem) : Sim X E C pc L (.long y :: .long x :: rest) σ rem := fun v t hr hc H locs ls hR hS hl => lv_lxor O.hx O.hb hd (k v t hr hc H locs ls hR hS hl)
theorem s_ineg (O : XOk X cc own F Lo) {x : Int32} (hd : decode cc pc = .ok (.ineg, 1)) (k : Sim X E C (pc + 1) L (.int (-x) :: rest) σ rem) : Sim X E C pc L (.int x :: rest) σ rem := fun v t hr hc H locs ls hR hS hl => lv_ineg O.hx O.hb hd (k v t hr hc H locs ls hR hS hl)
theorem s_lneg (O : XOk X cc own F Lo) {x : Int64} (hd : decode cc pc = .ok (.lneg, 1)) (k : Sim X E C (pc + 1) L (.long (-x) :: rest) σ rem) : Sim X E C pc L (.long x :: rest) σ rem := fun v t hr hc H locs ls hR hS hl => lv_lneg O.hx O.hb hd (k v t hr hc H locs ls hR hS hl)
theorem s_lshl (O : XOk X cc own F Lo) {x : Int64} {y : Int32} (hd : decode cc pc = .ok (.lshl, 1)) (k : Sim X E C (pc + 1) L (.long (x <<< (y.toInt64 &&& 63)) :: rest) σ rem) : Sim X E C pc L (.int y :: .long x :: rest) σ rem := fun v t hr hc H locs ls hR hS hl => lv_lshl O.hx O.hb hd rfl (k v t hr hc H locs ls hR hS hl)
theorem s_lushr (O : XOk X cc own F Lo) {x : Int64} {y : Int32} (hd : decode cc pc = .ok (.lushr, 1)) (k : Sim X E C (pc + 1) L (.long ((x.toUInt64 >>> (y.toInt64.toUInt64 &&& Int64.toUInt64 63)).toInt64) :: rest) σ rem) : Sim X E C pc L (.int y :: .long x :: rest) σ rem := fun v t hr hc H locs ls hR hS hl => lv_lushr O.hx O.hb hd rfl (k v t hr hc H locs ls hR hS hl)
theorem s_i2l (O : XOk X cc own F Lo) {x : Int32} (hd : decode cc pc = .ok (.i2l, 1)) (k : Sim X E C (pc + 1) L (.long x.toInt64 :: rest) σ rem) : Sim X E C pc L (.int x :: rest) σ rem := fun v t hr hc H locs ls hR hS hl => lv_i2l O.hx O.hb hd rfl (k v t hr hc H locs ls hR hS hl)
theorem s_l2i (O : XOk X cc own F Lo) {x : Int64} (hd : decode cc pc = .ok (.l2i, 1)) (k : Sim X E C (pc + 1) L (.int x.toInt32 :: rest) σ rem) : Sim X E C pc L (.long x :: rest) σ rem := fun v t hr hc H locs ls hR hS hl => lv_l2i O.hx O.hb hd rfl (k v t hr hc H locs ls hR hS hl)
theorem s_i2b (O : XOk X cc own F Lo) {x : Int32} (hd : decode cc pc = .ok (.i2b, 1)) (k : Sim X E C (pc + 1) L (.int x.toInt8.toInt32 :: rest) σ rem) : Sim X E C pc L (.int x :: rest) σ rem := fun v t hr hc H locs ls hR hS hl => lv_i2b O.hx O.hb hd rfl (k v t hr hc H locs ls hR hS hl)
theorem s_i2c (O : XOk X cc own F Lo) {x : Int32} (hd : decode cc pc = .ok (.i2c, 1)) (k : Sim X E C (pc + 1) L (.int (x.toUInt32 % 65536).toInt32 :: rest) σ rem) : Sim X E C pc L (.int x :: rest) σ rem := fun v t hr hc H locs ls hR hS hl => lv_i2c O.hx O.hb hd rfl (k v t hr hc H locs ls hR hS hl)
theorem s_idiv (O : XOk X cc own F Lo) {x y : Int32} (hd : decode cc pc = .ok (.idiv, 1)) (k : Sim X E C (pc + 1) L (.int (x / y) :: rest) σ rem) : Sim X E C pc L (.int y :: .int x :: rest) σ (chk (¬ y = 0) rem) := Sim.chk fun h v t hr hc H locs ls hR hS hl => lv_idiv O.hx O.hb hd h (k v t hr hc H locs ls hR hS hl)
theorem s_irem (O : XOk X cc own F Lo) {x y : Int32} (hd : decode cc pc = .ok (.irem, 1)) (k : Sim X E C (pc + 1) L (.int (x - x / y * y) :: rest) σ rem) : Sim X E C pc L (.int y :: .int x :: rest) σ (chk (¬ y = 0) rem) := Sim.chk fun h v t hr hc H locs ls hR hS hl => lv_irem O.hx O.hb hd h (k v t hr hc H locs ls hR hS hl)
theorem s_ldiv (O : XOk X cc own F Lo) {x y : Int64} (hd : decode cc pc = .ok (.ldiv, 1)) (k : Sim X E C (pc + 1) L (.long (x / y) :: rest) σ rem) : Sim X E C pc L (.long y :: .long x :: rest) σ (chk (¬ y = 0) rem) := Sim.chk fun h v t hr hc H locs ls hR hS hl => lv_ldiv O.hx O.hb hd h (k v t hr hc H locs ls hR hS hl)
theorem s_lrem (O : XOk X cc own F Lo) {x y : Int64} (hd : decode cc pc = .ok (.lrem, 1)) (k : Sim X E C (pc + 1) L (.long (x - x / y * y) :: rest) σ rem) : Sim X E C pc L (.long y :: .long x :: rest) σ (chk (¬ y = 0) rem) := Sim.chk fun h v t hr hc H locs ls hR hS hl => lv_lrem O.hx O.hb hd h (k v t hr hc H locs ls hR hS hl)
theorem s_dup (O : XOk X cc own F Lo) {va : Value} (hva : va.category = 1) (hd : decode cc pc = .ok (.dup, 1)) (k : Sim X E C (pc + 1) L (va :: va :: rest) σ rem) : Sim X E C pc L (va :: rest) σ rem := fun v t hr hc H locs ls hR hS hl => lv_dup O.hx O.hb hd hva (k v t hr hc H locs ls hR hS hl)
theorem s_pop (O : XOk X cc own F Lo) {va : Value} (hva : va.category = 1) (hd : decode cc pc = .ok (.pop, 1)) (k : Sim X E C (pc + 1) L (rest) σ rem) : Sim X E C pc L (va :: rest) σ rem := fun v t hr hc H locs ls hR hS hl => lv_pop O.hx O.hb hd hva (k v t hr hc H locs ls hR hS hl)
theorem s_pop2 (O : XOk X cc own F Lo) {va : Value} (hva : va.category = 2) (hd : decode cc pc = .ok (.pop2, 1)) (k : Sim X E C (pc + 1) L (rest) σ rem) : Sim X E C pc L (va :: rest) σ rem := fun v t hr hc H locs ls hR hS hl => lv_pop2_2 O.hx O.hb hd hva (k v t hr hc H locs ls hR hS hl)
theorem s_dup_x1 (O : XOk X cc own F Lo) {va vb : Value} (hva : va.category = 1) (hvb : vb.category = 1) (hd : decode cc pc = .ok (.dup_x1, 1)) (k : Sim X E C (pc + 1) L (va :: vb :: va :: rest) σ rem) : Sim X E C pc L (va :: vb :: rest) σ rem := fun v t hr hc H locs ls hR hS hl => lv_dup_x1 O.hx O.hb hd hva hvb (k v t hr hc H locs ls hR hS hl)
theorem s_dup2 (O : XOk X cc own F Lo) {va vb : Value} (hva : va.category = 1) (hvb : vb.category = 1) (hd : decode cc pc = .ok (.dup2, 1)) (k : Sim X E C (pc + 1) L (va :: vb :: va :: vb :: rest) σ rem) : Sim X E C pc L (va :: vb :: rest) σ rem := fun v t hr hc H locs ls hR hS hl => lv_dup2_11 O.hx O.hb hd hva hvb (k v t hr hc H locs ls hR hS hl)
theorem s_dup2L (O : XOk X cc own F Lo) {va : Value} (hva : va.category = 2) (hd : decode cc pc = .ok (.dup2, 1)) (k : Sim X E C (pc + 1) L (va :: va :: rest) σ rem) : Sim X E C pc L (va :: rest) σ rem := fun v t hr hc H locs ls hR hS hl => lv_dup2_2 O.hx O.hb hd hva (k v t hr hc H locs ls hR hS hl)
theorem s_goto (O : XOk X cc own F Lo) {off : Int} {tgt : Nat} (hd : decode cc pc = .ok (.goto off, 3)) (ht : (pc : Int) + off = (tgt : Int)) (k : Sim X E C tgt L rest σ rem) : Sim X E C pc L rest σ rem := fun v t hr hc H locs ls hR hS hl => lv_goto O.hx O.hb hd ht (k v t hr hc H locs ls hR hS hl)
theorem s_if_eq (O : XOk X cc own F Lo) {x : Int32} {off : Int} {tgt : Nat} {a b : Option (ρ × S)} (hd : decode cc pc = .ok (.ifCond .eq off, 3)) (ht : (pc : Int) + off = (tgt : Int)) (ka : Sim X E C tgt L rest σ a) (kb : Sim X E C (pc + 3) L rest σ b) : Sim X E C pc L (.int x :: rest) σ (if x = 0 then a else b) := fun v t hr hc H locs ls hR hS hl => lv_if_eq O.hx O.hb hd ht (fun h => ka v t (by rw [if_pos h] at hr; exact hr) hc H locs ls hR hS hl) (fun h => kb v t (by rw [if_neg h] at hr; exact hr) hc H locs ls hR hS hl)
theorem s_if_ne (O : XOk X cc own F Lo) {x : Int32} {off : Int} {tgt : Nat} {a b : Option (ρ × S)} (hd : decode cc pc = .ok (.ifCond .ne off, 3)) (ht : (pc : Int) + off = (tgt : Int)) (ka : Sim X E C tgt L rest σ a) (kb : Sim X E C (pc + 3) L rest σ b) : Sim X E C pc L (.int x :: rest) σ (if x = 0 then b else a) := fun v t hr hc H locs ls hR hS hl => lv_if_ne O.hx O.hb hd ht (fun h => ka v t (by rw [if_neg h] at hr; exact hr) hc H locs ls hR hS hl) (fun h => kb v t (by rw [if_pos h] at hr; exact hr) hc H locs ls hR hS hl)
theorem s_if_lt (O : XOk X cc own F Lo) {x : Int32} {off : Int} {tgt : Nat} {a b : Option (ρ × S)} (hd : decode cc pc = .ok (.ifCond .lt off, 3)) (ht : (pc : Int) + off = (tgt : Int)) (ka : Sim X E C tgt L rest σ a) (kb : Sim X E C (pc + 3) L rest σ b) : Sim X E C pc L (.int x :: rest) σ (if x < 0 then a else b) := fun v t hr hc H locs ls hR hS hl => lv_if_lt O.hx O.hb hd ht (fun h => ka v t (by rw [if_pos h] at hr; exact hr) hc H locs ls hR hS hl) (fun h => kb v t (by rw [if_neg h] at hr; exact hr) hc H locs ls hR hS hl)
theorem s_if_ge (O : XOk X cc own F Lo) {x : Int32} {off : Int} {tgt : Nat} {a b : Option (ρ × S)} (hd : decode cc pc = .ok (.ifCond .ge off, 3)) (ht : (pc : Int) + off = (tgt : Int)) (ka : Sim X E C tgt L rest σ a) (kb : Sim X E C (pc + 3) L rest σ b) : Sim X E C pc L (.int x :: rest) σ (if 0 ≤ x then a else b) := fun v t hr hc H locs ls hR hS hl => lv_if_ge O.hx O.hb hd ht (fun h => ka v t (by rw [if_pos h] at hr; exact hr) hc H locs ls hR hS hl) (fun h => kb v t (by rw [if_neg h] at hr; exact hr) hc H locs ls hR hS hl)
theorem s_if_gt (O : XOk X cc own F Lo) {x : Int32} {off : Int} {tgt : Nat} {a b : Option (ρ × S)} (hd : decode cc pc = .ok (.ifCond .gt off, 3)) (ht : (pc : Int) + off = (tgt : Int)) (ka : Sim X E C tgt L rest σ a) (kb : Sim X E C (pc + 3) L rest σ b) : Sim X E C pc L (.int x :: rest) σ (if 0 < x then a else b) := fun v t hr hc H locs ls hR hS hl => lv_if_gt O.hx O.hb hd ht (fun h => ka v t (by rw [if_pos h] at hr; exact hr) hc H locs ls hR hS hl) (fun h => kb v t (by rw [if_neg h] at hr; exact hr) hc H locs ls hR hS hl)
theorem s_if_le (O : XOk X cc own F Lo) {x : Int32} {off : Int} {tgt : Nat} {a b : Option (ρ × S)} (hd : decode cc pc = .ok (.ifCond .le off, 3)) (ht : (pc : Int) + off = (tgt : Int)) (ka : Sim X E C tgt L rest σ a) (kb : Sim X E C (pc + 3) L rest σ b) : Sim X E C pc L (.int x :: rest) σ (if x ≤ 0 then a else b) := fun v t hr hc H locs ls hR hS hl => lv_if_le O.hx O.hb hd ht (fun h => ka v t (by rw [if_pos h] at hr; exact hr) hc H locs ls hR hS hl) (fun h => kb v t (by rw [if_neg h] at hr; exact hr) hc H locs ls hR hS hl)
theorem s_icmp_eq (O : XOk X cc own F Lo) {x y : Int32} {off : Int} {tgt : Nat} {a b : Option (ρ × S)} (hd : decode cc pc = .ok (.if_icmp .eq off, 3)) (ht : (pc : Int) + off = (tgt : Int)) (ka : Sim X E C tgt L rest σ a) (kb : Sim X E C (pc + 3) L rest σ b) : Sim X E C pc L (.int y :: .int x :: rest) σ (if x = y then a else b) := fun v t hr hc H locs ls hR hS hl => lv_icmp_eq O.hx O.hb hd ht (fun h => ka v t (by rw [if_pos h] at hr; exact hr) hc H locs ls hR hS hl) (fun h => kb v t (by rw [if_neg h] at hr; exact hr) hc H locs ls hR hS hl)
theorem s_icmp_ne (O : XOk X cc own F Lo) {x y : Int32} {off : Int} {tgt : Nat} {a b : Option (ρ × S)} (hd : decode cc pc = .ok (.if_icmp .ne off, 3)) (ht : (pc : Int) + off = (tgt : Int)) (ka : Sim X E C tgt L rest σ a) (kb : Sim X E C (pc + 3) L rest σ b) : Sim X E C pc L (.int y :: .int x :: rest) σ (if x = y then b else a) := fun v t hr hc H locs ls hR hS hl => lv_icmp_ne O.hx O.hb hd ht (fun h => ka v t (by rw [if_neg h] at hr; exact hr) hc H locs ls hR hS hl) (fun h => kb v t (by rw [if_pos h] at hr; exact hr) hc H locs ls hR hS hl)
theorem s_icmp_lt (O : XOk X cc own F Lo) {x y : Int32} {off : Int} {tgt : Nat} {a b : Option (ρ × S)} (hd : decode cc pc = .ok (.if_icmp .lt off, 3)) (ht : (pc : Int) + off = (tgt : Int)) (ka : Sim X E C tgt L rest σ a) (kb : Sim X E C (pc + 3) L rest σ b) : Sim X E C pc L (.int y :: .int x :: rest) σ (if x < y then a else b) := fun v t hr hc H locs ls hR hS hl => lv_icmp_lt O.hx O.hb hd ht (fun h => ka v t (by rw [if_pos h] at hr; exact hr) hc H locs ls hR hS hl) (fun h => kb v t (by rw [if_neg h] at hr; exact hr) hc H locs ls hR hS hl)
theorem s_icmp_ge (O : XOk X cc own F Lo) {x y : Int32} {off : Int} {tgt : Nat} {a b : Option (ρ × S)} (hd : decode cc pc = .ok (.if_icmp .ge off, 3)) (ht : (pc : Int) + off = (tgt : Int)) (ka : Sim X E C tgt L rest σ a) (kb : Sim X E C (pc + 3) L rest σ b) : Sim X E C pc L (.int y :: .int x :: rest) σ (if y ≤ x then a else b) := fun v t hr hc H locs ls hR hS hl => lv_icmp_ge O.hx O.hb hd ht (fun h => ka v t (by rw [if_pos h] at hr; exact hr) hc H locs ls hR hS hl) (fun h => kb v t (by rw [if_neg h] at hr; exact hr) hc H locs ls hR hS hl)
theorem s_icmp_gt (O : XOk X cc own F Lo) {x y : Int32} {off : Int} {tgt : Nat} {a b : Option (ρ × S)} (hd : decode cc pc = .ok (.if_icmp .gt off, 3)) (ht : (pc : Int) + off = (tgt : Int)) (ka : Sim X E C tgt L rest σ a) (kb : Sim X E C (pc + 3) L rest σ b) : Sim X E C pc L (.int y :: .int x :: rest) σ (if y < x then a else b) := fun v t hr hc H locs ls hR hS hl => lv_icmp_gt O.hx O.hb hd ht (fun h => ka v t (by rw [if_pos h] at hr; exact hr) hc H locs ls hR hS hl) (fun h => kb v t (by rw [if_neg h] at hr; exact hr) hc H locs ls hR hS hl)
theorem s_icmp_le (O : XOk X cc own F Lo) {x y : Int32} {off : Int} {tgt : Nat} {a b : Option (ρ × S)} (hd : decode cc pc = .ok (.if_icmp .le off, 3)) (ht : (pc : Int) + off = (tgt : Int)) (ka : Sim X E C tgt L rest σ a) (kb : Sim X E C (pc + 3) L rest σ b) : Sim X E C pc L (.int y :: .int x :: rest) σ (if x ≤ y then a else b) := fun v t hr hc H locs ls hR hS hl => lv_icmp_le O.hx O.hb hd ht (fun h => ka v t (by rw [if_pos h] at hr; exact hr) hc H locs ls hR hS hl) (fun h => kb v t (by rw [if_neg h] at hr; exact hr) hc H locs ls hR hS hl)
theorem lgc_eq (x y : Int64) : lg_cmp x y = 0 ↔ x = y := by
  unfold lg_cmp
  by_cases h : y < x
  · have hne : ¬ x = y := fun e => by rw [e] at h; exact absurd h (by simp [Int64.lt_iff_toInt_lt])
    simp [h, hne]
  · by_cases e : x = y
    · simp [e]
    · simp [h, e]
theorem lgc_lt (x y : Int64) : lg_cmp x y < 0 ↔ x < y := by
  unfold lg_cmp
  by_cases h : y < x
  · have hn : ¬ x < y := by rw [Int64.lt_iff_toInt_lt] at h ⊢; omega
    simp [h, hn]
  · by_cases e : x = y
    · simp [e, Int64.lt_iff_toInt_lt]
    · have hl : x < y := by
        rw [Int64.lt_iff_toInt_lt] at h ⊢
        have : x.toInt ≠ y.toInt := fun q => e (Int64.toInt_inj.mp q)
        omega
      simp [h, e, hl]
theorem lgc_gt (x y : Int64) : 0 < lg_cmp x y ↔ y < x := by
  unfold lg_cmp
  by_cases h : y < x
  · simp [h]
  · by_cases e : x = y
    · simp [e, Int64.lt_iff_toInt_lt]
    · simp [h, e]
theorem lgc_ge (x y : Int64) : 0 ≤ lg_cmp x y ↔ y ≤ x := lg_cmp_ge x y
theorem lgc_le (x y : Int64) : lg_cmp x y ≤ 0 ↔ x ≤ y := by
  have h1 := lgc_gt x y
  rw [Int32.lt_iff_toInt_lt] at h1
  rw [Int32.le_iff_toInt_le, Int64.le_iff_toInt_le]
  rw [Int64.lt_iff_toInt_lt] at h1
  omega
theorem s_lcmp_eq (O : XOk X cc own F Lo) {x y : Int64} {off : Int} {tgt : Nat} {a b : Option (ρ × S)} (hd : decode cc pc = .ok (.lcmp, 1)) (hd2 : decode cc (pc + 1) = .ok (.ifCond .eq off, 3)) (ht : ((pc + 1 : Nat) : Int) + off = (tgt : Int)) (ka : Sim X E C tgt L rest σ a) (kb : Sim X E C (pc + 4) L rest σ b) : Sim X E C pc L (.long y :: .long x :: rest) σ (if x = y then a else b) := fun v t hr hc H locs ls hR hS hl => W.lcmp O.hx O.hb hd (lv_if_eq O.hx O.hb hd2 ht (fun h => ka v t (by rw [if_pos ((lgc_eq x y).mp h)] at hr; exact hr) hc H locs ls hR hS hl) (fun h => kb v t (by rw [if_neg (fun q => h ((lgc_eq x y).mpr q))] at hr; exact hr) hc H locs ls hR hS hl))
theorem s_lcmp_ne (O : XOk X cc own F Lo) {x y : Int64} {off : Int} {tgt : Nat} {a b : Option (ρ × S)} (hd : decode cc pc = .ok (.lcmp, 1)) (hd2 : decode cc (pc + 1) = .ok (.ifCond .ne off, 3)) (ht : ((pc + 1 : Nat) : Int) + off = (tgt : Int)) (ka : Sim X E C tgt L rest σ a) (kb : Sim X E C (pc + 4) L rest σ b) : Sim X E C pc L (.long y :: .long x :: rest) σ (if x = y then b else a) := fun v t hr hc H locs ls hR hS hl => W.lcmp O.hx O.hb hd (lv_if_ne O.hx O.hb hd2 ht (fun h => ka v t (by rw [if_neg (fun q => h ((lgc_eq x y).mpr q))] at hr; exact hr) hc H locs ls hR hS hl) (fun h => kb v t (by rw [if_pos ((lgc_eq x y).mp h)] at hr; exact hr) hc H locs ls hR hS hl))
theorem s_lcmp_lt (O : XOk X cc own F Lo) {x y : Int64} {off : Int} {tgt : Nat} {a b : Option (ρ × S)} (hd : decode cc pc = .ok (.lcmp, 1)) (hd2 : decode cc (pc + 1) = .ok (.ifCond .lt off, 3)) (ht : ((pc + 1 : Nat) : Int) + off = (tgt : Int)) (ka : Sim X E C tgt L rest σ a) (kb : Sim X E C (pc + 4) L rest σ b) : Sim X E C pc L (.long y :: .long x :: rest) σ (if x < y then a else b) := fun v t hr hc H locs ls hR hS hl => W.lcmp O.hx O.hb hd (lv_if_lt O.hx O.hb hd2 ht (fun h => ka v t (by rw [if_pos ((lgc_lt x y).mp h)] at hr; exact hr) hc H locs ls hR hS hl) (fun h => kb v t (by rw [if_neg (fun q => h ((lgc_lt x y).mpr q))] at hr; exact hr) hc H locs ls hR hS hl))
theorem s_lcmp_ge (O : XOk X cc own F Lo) {x y : Int64} {off : Int} {tgt : Nat} {a b : Option (ρ × S)} (hd : decode cc pc = .ok (.lcmp, 1)) (hd2 : decode cc (pc + 1) = .ok (.ifCond .ge off, 3)) (ht : ((pc + 1 : Nat) : Int) + off = (tgt : Int)) (ka : Sim X E C tgt L rest σ a) (kb : Sim X E C (pc + 4) L rest σ b) : Sim X E C pc L (.long y :: .long x :: rest) σ (if y ≤ x then a else b) := fun v t hr hc H locs ls hR hS hl => W.lcmp O.hx O.hb hd (lv_if_ge O.hx O.hb hd2 ht (fun h => ka v t (by rw [if_pos ((lgc_ge x y).mp h)] at hr; exact hr) hc H locs ls hR hS hl) (fun h => kb v t (by rw [if_neg (fun q => h ((lgc_ge x y).mpr q))] at hr; exact hr) hc H locs ls hR hS hl))
theorem s_lcmp_gt (O : XOk X cc own F Lo) {x y : Int64} {off : Int} {tgt : Nat} {a b : Option (ρ × S)} (hd : decode cc pc = .ok (.lcmp, 1)) (hd2 : decode cc (pc + 1) = .ok (.ifCond .gt off, 3)) (ht : ((pc + 1 : Nat) : Int) + off = (tgt : Int)) (ka : Sim X E C tgt L rest σ a) (kb : Sim X E C (pc + 4) L rest σ b) : Sim X E C pc L (.long y :: .long x :: rest) σ (if y < x then a else b) := fun v t hr hc H locs ls hR hS hl => W.lcmp O.hx O.hb hd (lv_if_gt O.hx O.hb hd2 ht (fun h => ka v t (by rw [if_pos ((lgc_gt x y).mp h)] at hr; exact hr) hc H locs ls hR hS hl) (fun h => kb v t (by rw [if_neg (fun q => h ((lgc_gt x y).mpr q))] at hr; exact hr) hc H locs ls hR hS hl))
theorem s_lcmp_le (O : XOk X cc own F Lo) {x y : Int64} {off : Int} {tgt : Nat} {a b : Option (ρ × S)} (hd : decode cc pc = .ok (.lcmp, 1)) (hd2 : decode cc (pc + 1) = .ok (.ifCond .le off, 3)) (ht : ((pc + 1 : Nat) : Int) + off = (tgt : Int)) (ka : Sim X E C tgt L rest σ a) (kb : Sim X E C (pc + 4) L rest σ b) : Sim X E C pc L (.long y :: .long x :: rest) σ (if x ≤ y then a else b) := fun v t hr hc H locs ls hR hS hl => W.lcmp O.hx O.hb hd (lv_if_le O.hx O.hb hd2 ht (fun h => ka v t (by rw [if_pos ((lgc_le x y).mp h)] at hr; exact hr) hc H locs ls hR hS hl) (fun h => kb v t (by rw [if_neg (fun q => h ((lgc_le x y).mpr q))] at hr; exact hr) hc H locs ls hR hS hl))
theorem s_ifnull (O : XOk X cc own F Lo) {r : Option Nat} {off : Int} {tgt : Nat} {a : Option (ρ × S)} {b : Nat → Option (ρ × S)} (hd : decode cc pc = .ok (.ifnull off, 3)) (ht : (pc : Int) + off = (tgt : Int)) (ka : r = none → Sim X E C tgt L rest σ a) (kb : ∀ x, r = some x → Sim X E C (pc + 3) L rest σ (b x)) : Sim X E C pc L (va_rf r :: rest) σ (match r with | none => a | some x => b x) := fun v t hr hc H locs ls hR hS hl => by
  cases r with
  | none => exact lv_ifnullN O.hx O.hb hd ht (ka rfl v t hr hc H locs ls hR hS hl)
  | some x => exact lv_ifnull O.hx O.hb hd (kb x rfl v t hr hc H locs ls hR hS hl)
theorem s_ifnonnull (O : XOk X cc own F Lo) {r : Option Nat} {off : Int} {tgt : Nat} {a : Nat → Option (ρ × S)} {b : Option (ρ × S)} (hd : decode cc pc = .ok (.ifnonnull off, 3)) (ht : (pc : Int) + off = (tgt : Int)) (ka : ∀ x, r = some x → Sim X E C tgt L rest σ (a x)) (kb : r = none → Sim X E C (pc + 3) L rest σ b) : Sim X E C pc L (va_rf r :: rest) σ (match r with | none => b | some x => a x) := fun v t hr hc H locs ls hR hS hl => by
  cases r with
  | none => exact lv_ifnonnullN O.hx O.hb hd (kb rfl v t hr hc H locs ls hR hS hl)
  | some x => exact lv_ifnonnull O.hx O.hb hd ht (ka x rfl v t hr hc H locs ls hR hS hl)
theorem s_acmp_ne (O : XOk X cc own F Lo) {rx ry : Option Nat} {off : Int} {tgt : Nat} {a b : Option (ρ × S)} (hd : decode cc pc = .ok (.if_acmp .ne off, 3)) (ht : (pc : Int) + off = (tgt : Int)) (ka : Sim X E C tgt L rest σ a) (kb : Sim X E C (pc + 3) L rest σ b) : Sim X E C pc L (va_rf ry :: va_rf rx :: rest) σ (if rx = ry then b else a) := fun v t hr hc H locs ls hR hS hl => lv_acmp_ne O.hx O.hb hd ht (fun h => ka v t (by rw [if_neg h] at hr; exact hr) hc H locs ls hR hS hl) (fun h => kb v t (by rw [if_pos h] at hr; exact hr) hc H locs ls hR hS hl)
theorem s_acmp_eq (O : XOk X cc own F Lo) {rx ry : Option Nat} {off : Int} {tgt : Nat} {a b : Option (ρ × S)} (hd : decode cc pc = .ok (.if_acmp .eq off, 3)) (ht : (pc : Int) + off = (tgt : Int)) (ka : Sim X E C tgt L rest σ a) (kb : Sim X E C (pc + 3) L rest σ b) : Sim X E C pc L (va_rf ry :: va_rf rx :: rest) σ (if rx = ry then a else b) := fun v t hr hc H locs ls hR hS hl => lv_acmp_eq O.hx O.hb hd ht (fun h => ka v t (by rw [if_pos h] at hr; exact hr) hc H locs ls hR hS hl) (fun h => kb v t (by rw [if_neg h] at hr; exact hr) hc H locs ls hR hS hl)
theorem s_tableIn (O : XOk X cc own F Lo) {dflt lo hi : Int} {offs : Array Int} {len : Nat} {x : Int32} {off : Int} {tgt : Nat} (hd : decode cc pc = .ok (.tableswitch dflt lo hi offs, len)) (h1 : ¬ x.toInt < lo) (h2 : ¬ hi < x.toInt) (ho : offs[(x.toInt - lo).toNat]? = some off) (ht : (pc : Int) + off = (tgt : Int)) (k : Sim X E C tgt L rest σ rem) : Sim X E C pc L (.int x :: rest) σ rem := fun v t hr hc H locs ls hR hS hl => lv_tableIn O.hx O.hb hd h1 h2 ho ht (k v t hr hc H locs ls hR hS hl)
theorem s_tableOut (O : XOk X cc own F Lo) {dflt lo hi : Int} {offs : Array Int} {len : Nat} {x : Int32} {tgt : Nat} (hd : decode cc pc = .ok (.tableswitch dflt lo hi offs, len)) (h : x.toInt < lo ∨ hi < x.toInt) (ht : (pc : Int) + dflt = (tgt : Int)) (k : Sim X E C tgt L rest σ rem) : Sim X E C pc L (.int x :: rest) σ rem := fun v t hr hc H locs ls hR hS hl => lv_tableOut O.hx O.hb hd h ht (k v t hr hc H locs ls hR hS hl)
theorem s_lookup (O : XOk X cc own F Lo) {dflt : Int} {ps : Array (Int × Int)} {len : Nat} {x : Int32} {off : Int} {tgt : Nat} (hd : decode cc pc = .ok (.lookupswitch dflt ps, len)) (hp : (ps.toList.zip (ps.toList.drop 1)).all (fun (a, next) => a.1 < next.1) = true) (ho : Op.lookupswitch.offset ps.toList dflt x.toInt = off) (ht : (pc : Int) + off = (tgt : Int)) (k : Sim X E C tgt L rest σ rem) : Sim X E C pc L (.int x :: rest) σ rem := fun v t hr hc H locs ls hR hS hl => lv_lookup O.hx O.hb hd hp ho ht (k v t hr hc H locs ls hR hS hl)
/-- outside a table from 0 on: none of its numbers -/
theorem tsw_out {x : Int32} (n : Nat) (hn : n < 2 ^ 31) (h : ∀ k : Nat, k ≤ n → ¬ x = Int32.ofNat k) : x.toInt < 0 ∨ (n : Int) < x.toInt := by
  by_cases h0 : x.toInt < 0
  · exact Or.inl h0
  · by_cases h1 : (n : Int) < x.toInt
    · exact Or.inr h1
    · exfalso
      refine h x.toInt.toNat (by omega) ?_
      rw [← Int32.toInt_inj]
      have : (Int32.ofNat x.toInt.toNat).toInt = (x.toInt.toNat : Int) := nI_toInt (n := x.toInt.toNat) (by omega)
      rw [this]
      omega
/-- a loop: its steps are walked once, for any way on -/
theorem s_while {A B : Type} {step : A → S → Option ((A ⊕ B) × S)} {k : B → S → Option (ρ × S)} {La : A → List (Nat × Value)} {We : B → S → Prop} {a : A} (hpc : L = La a) (hrest : rest = [])
    (hbody : ∀ (Cl : A ⊕ B → S → Prop), (∀ a s, Cl (.inl a) s → xWX X pc (La a) [] (E s)) → (∀ b s, Cl (.inr b) s → We b s) → ∀ a s, Sim X E Cl pc (La a) [] s (step a s))
    (hk : ∀ b s v t, k b s = some (v, t) → C v t → We b s) : Sim X E C pc L rest σ (bnd (whileO step a σ) k) := by
  subst hpc hrest
  intro v t hr hc
  obtain ⟨b, s1, hw, hk1⟩ := bnd_ex hr
  obtain ⟨n, hn⟩ := whileO_ex hw
  clear hw hr
  induction n generalizing a σ with
  | zero => cases hn
  | succ n ih =>
    unfold itO at hn
    cases hs : step a σ with
    | none => rw [hs] at hn; cases hn
    | some q =>
      obtain ⟨d, s'⟩ := q
      rw [hs] at hn
      cases d with
      | inl a' =>
        refine hbody (fun d u => d = .inl a' ∧ u = s') ?_ ?_ a σ (.inl a') s' hs ⟨rfl, rfl⟩
        · rintro a2 s2 ⟨h1, h2⟩
          cases h1; cases h2
          exact ih hn
        · rintro b2 s2 ⟨h1, -⟩
          cases h1
      | inr b' =>
        cases hn
        refine hbody (fun d u => d = .inr b ∧ u = s1) ?_ ?_ a σ (.inr b) s1 hs ⟨rfl, rfl⟩
        · rintro a2 s2 ⟨h1, -⟩
          cases h1
        · rintro b2 s2 ⟨h1, h2⟩
          cases h1; cases h2
          exact hk _ _ v t hk1 hc
end Rows
