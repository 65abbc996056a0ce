/-! HEAP ROWS, CALLS, RETURNS over Sim -/
section HeapCore
variable {X : XC} {cc : ByteArray} {own : String} {F Lo : Nat} {pc : Nat} {L : List (Nat × Value)} {rest : List Value} {σ : XS} {a : Nat}
theorem xK.k {G : XG} {U : State} (h : xK G U) (t : Nat) {ty : FieldType} (ht : xty[t]? = some ty) : va_K G.2.1 xcl [(G.2.2.1 t, ty)] U := by
  refine ⟨h.1.1, fun k q hk => ?_⟩
  cases k with
  | zero =>
    simp at hk
    subst hk
    exact h.2 t ty ht
  | succ k => simp at hk
theorem Rep.at {d : Nat} {G : XG} {H : Heap} {c : XCell} (h : Rep d G σ H) (ha : σ.2.2.2 a = some c) : xAt G a c H := h.2.2.2.2.2 a c ha
theorem Rep.arr {d : Nat} {G : XG} {H : Heap} {t : Nat} {A : vp_A} (h : Rep d G σ H) (ha : σ.2.2.2 a = some (.inl (t, A))) : va_P G.2.1 xcl [(a, .inl (G.2.2.1 t, A))] H := by
  intro k q hk
  cases k with
  | zero =>
    simp at hk
    subst hk
    exact h.at ha
  | succ k => simp at hk
theorem Rep.obj {d : Nat} {G : XG} {H : Heap} {ci : Nat} {fs : List Value} (h : Rep d G σ H) (ha : σ.2.2.2 a = some (cO ci fs)) : va_P G.2.1 xcl [(a, .inr (ci, fs))] H := by
  intro k q hk
  cases k with
  | zero =>
    simp at hk
    subst hk
    obtain ⟨r, h1, h2, h3⟩ := h.at ha
    exact ⟨r, h1, h3⟩
  | succ k => simp at hk
theorem c_getf (O : XOk X cc own F Lo) {ref Cn : String} {T : u_T} {N ci index : Nat} {fs : List Value} {v : Value} (ha : σ.2.2.2 a = some (cO ci fs)) (hin : ∀ w ∈ u_ws Cn T N, w ∈ lw_all) (hc : xcl[ci]? = some (Cn, T, N)) (k : Nat) (hk : k < N)
    (hq : Cond.fieldLink own index ref (T k).2.1 (T k).2.2.1 ∈ lw_all) (hsame : ∀ x, (xS X).fieldFound? (T k).1 (T k).2.1 (T k).2.2.1 = some x → (xS X).fieldFound? ref (T k).2.1 (T k).2.2.1 = some x) (hv : fs[k]? = some v)
    (hd : decode cc pc = .ok (.getfield index, 3)) (kk : xWX X (pc + 3) L (v :: rest) σ) : xWX X pc L (.ref a :: rest) σ := by
  intro H locs ls hR hS hl
  exact va_get (D := (xG X).2.1) (ci := ci) (v := v) (C := Cn) (T := T) (N := N) (tys := []) O.hx O.hb O.hts hin O.hown O.hK.1 (hR.obj ha) 0 rfl hc k hk (O.hts _ hq) hsame hv hd (kk H locs ls hR hS hl)
theorem xWX.put {st : List Value} {c : XCell} (kk : xWX X pc L st (xup σ a c)) {H H' : Heap} {locs : List Loc} {ls : Array Slot} {x x1 : Cell} {j cells slots : Nat} (hR : Rep (xD X) (xG X) σ H) (hS : va_S (fun q => (xG X).1.1 ≤ q) (xS X).heap H locs) (hl : lv_has ls (xC X).maxLocals L) (hz : (xG X).1.1 ≤ a)
    (hx : H[a]? = some x) (e : H'[a]? = some x1) (hs : x1.slots.size = x.slots.size) (z : H'.size = H.size) (oq : ∀ q : Nat, q ≠ a → H'[q]? = H[q]?) (hc : xAt (xG X) a c H') :
    W (xP X) (xL X) (xEnv X) (xR X) (xS X) (xM X) (xArgs X) (xBelow X) (xMeth X) (xC X) H' (locs ++ [⟨a, j⟩]) cells slots (xQQ X) (F0 (xM X) pc ls st) :=
  W.tight (kk H' _ ls (hR.put z hx e hs oq hc) (hS.put z oq hz) hl)
theorem c_putf (O : XOk X cc own F Lo) {ref Cn : String} {T : u_T} {N ci index : Nat} {fs : List Value} {v : Value} {ty : FieldType} (hz : (xG X).1.1 ≤ a) (ha : σ.2.2.2 a = some (cO ci fs)) (hin : ∀ w ∈ u_ws Cn T N, w ∈ lw_all) (ty0 : Nat → FieldType) (hty : ∀ k, k < N → parseFieldDescriptor (T k).2.2.1 = some (ty0 k)) (hnm : ∀ a, a < N → ∀ b, b < N → a ≠ b → (T a).2.1 ≠ (T b).2.1) (hc : xcl[ci]? = some (Cn, T, N)) (k : Nat) (hk : k < N)
    (hq : Cond.fieldLink own index ref (T k).2.1 (T k).2.2.1 ∈ lw_all) (hsame : ∀ x, (xS X).fieldFound? (T k).1 (T k).2.1 (T k).2.2.1 = some x → (xS X).fieldFound? ref (T k).2.1 (T k).2.2.1 = some x) (hfin : (T k).2.2.2 = false) (hd0 : parseFieldDescriptor (T k).2.2.1 = some ty) (hn : narrow ty v = v) (hfit : fits ty v = true)
    (hd : decode cc pc = .ok (.putfield index, 3)) (kk : xWX X (pc + 3) L rest (xup σ a (cO ci (fs.set k v)))) : xWX X pc L (v :: .ref a :: rest) σ := by
  intro H locs ls hR hS hl
  have hap := va_apart (own := own) (cl := xcl) (tys := []) (D := (xG X).2.1) O.hts hin ty0 hty hnm O.hK.1 hc
  obtain ⟨r, h1, hlen, cell, q1, q2, q3, q4⟩ := hR.at ha
  have hr : r = (Cn, T, N) := Option.some.inj (h1.symm.trans hc)
  subst hr
  obtain ⟨hS1, hfc, kC, hkC, hkind⟩ := O.hK.1.1 ci _ hc
  obtain ⟨cf, kf, fi, f, hi, hsl⟩ := hS1 k hk
  have hlay := O.hts _ (hin _ (u_in_lay hk))
  unfold u_lay at hlay
  rw [if_neg (by rw [hfin]; decide)] at hlay
  have hst := (u_facts hfc hkC (u_lays O.hts hin hk) hi).1
  have h6 := u_store hfc hkC hkind hlay hi hd0 hn hfit
  have hl0 : k < fs.length := by rw [show fs.length = N from hlen]; exact hk
  refine W.putK O.hx O.hb (f := f) ⟨O.hown, O.hts _ hq, ⟨_, _, _, hsame _ hi⟩, hst⟩ (by rw [q2]; exact h6) q1 q3 (by rw [hsl]; exact k2_hasslot (q4 k hk)) rfl rfl hd fun H' e1 e2 e3 => ?_
  rw [hsl] at e1 ⊢
  refine kk.put hR hS hl hz q1 e1 (by simp [Cell.setSlot]) e2 e3 ⟨_, hc, by simpa using hlen, t_OB.to (V := updV (vp_V fs) k v) ⟨_, e1, q2, q3, t_set q4 hap hk v⟩ (fun j _ => vp_updV_set hl0 v j)⟩
theorem c_iald (O : XOk X cc own F Lo) {n : Nat} {f : Nat → Int32} {i : Int32} (ha : σ.2.2.2 a = some (cI 0 n f)) (hi : inb i n) (hd : decode cc pc = .ok (.iaload, 1)) (kk : xWX X (pc + 1) L (.int (f i.toNatClampNeg) :: rest) σ) : xWX X pc L (.int i :: .ref a :: rest) σ :=
  fun H locs ls hR hS hl => va_iald O.hx O.hb (O.hK.k 0 rfl) (hR.arr ha) 0 0 rfl rfl hi hd (kk H locs ls hR hS hl)
theorem c_bald (O : XOk X cc own F Lo) {n : Nat} {f : Nat → Int32} {i : Int32} (ha : σ.2.2.2 a = some (cI 2 n f)) (hi : inb i n) (hd : decode cc pc = .ok (.baload, 1)) (kk : xWX X (pc + 1) L (.int (f i.toNatClampNeg) :: rest) σ) : xWX X pc L (.int i :: .ref a :: rest) σ :=
  fun H locs ls hR hS hl => va_bald O.hx O.hb (O.hK.k 2 rfl) (hR.arr ha) 0 0 rfl rfl hi hd (kk H locs ls hR hS hl)
theorem c_zald (O : XOk X cc own F Lo) {n : Nat} {f : Nat → Int32} {i : Int32} (ha : σ.2.2.2 a = some (cI 3 n f)) (hi : inb i n) (hd : decode cc pc = .ok (.baload, 1)) (kk : xWX X (pc + 1) L (.int (f i.toNatClampNeg) :: rest) σ) : xWX X pc L (.int i :: .ref a :: rest) σ :=
  fun H locs ls hR hS hl => va_zald O.hx O.hb (O.hK.k 3 rfl) (hR.arr ha) 0 0 rfl rfl hi hd (kk H locs ls hR hS hl)
theorem c_lald (O : XOk X cc own F Lo) {n : Nat} {f : Nat → Int64} {i : Int32} (ha : σ.2.2.2 a = some (cL n f)) (hi : inb i n) (hd : decode cc pc = .ok (.laload, 1)) (kk : xWX X (pc + 1) L (.long (f i.toNatClampNeg) :: rest) σ) : xWX X pc L (.int i :: .ref a :: rest) σ :=
  fun H locs ls hR hS hl => va_lald O.hx O.hb (O.hK.k 1 rfl) (hR.arr ha) 0 0 rfl rfl hi hd (kk H locs ls hR hS hl)
theorem c_iast (O : XOk X cc own F Lo) {n : Nat} {f : Nat → Int32} {i x : Int32} (hz : (xG X).1.1 ≤ a) (ha : σ.2.2.2 a = some (cI 0 n f)) (hi : inb i n) (hd : decode cc pc = .ok (.iastore, 1)) (kk : xWX X (pc + 1) L rest (xup σ a (cI 0 n (upd f i.toNatClampNeg x)))) : xWX X pc L (.int x :: .int i :: .ref a :: rest) σ := by
  intro H locs ls hR hS hl
  refine W.iast O.hx O.hb (hR.at ha) ((O.hK.2 0 _ rfl).1 n (fun j => .int (f j))) (fun q => by cases q) (by show ¬ (i < 0 ∨ (arrV _ _ _).slots.size ≤ _); rw [arrV_size]; exact hi) rfl rfl hd fun H1 e z oq => ?_
  refine kk.put hR hS hl hz (hR.at ha) e (by simp [Cell.setSlot]) z oq ?_
  show H1[a]? = some (vp_cell _ _)
  rw [e, vp_cell_i, vp_cell_i, arrV_store]
  congr 2
  funext q
  by_cases hq : q = i.toNatClampNeg
  · subst hq; simp [updV, upd]
  · simp [updV, upd, hq]
theorem c_bast (O : XOk X cc own F Lo) {n : Nat} {f : Nat → Int32} {i x : Int32} (hz : (xG X).1.1 ≤ a) (ha : σ.2.2.2 a = some (cI 2 n f)) (hi : inb i n) (hd : decode cc pc = .ok (.bastore, 1)) (kk : xWX X (pc + 1) L rest (xup σ a (cI 2 n (upd f i.toNatClampNeg x.toInt8.toInt32)))) : xWX X pc L (.int x :: .int i :: .ref a :: rest) σ := by
  intro H locs ls hR hS hl
  refine W.bast O.hx O.hb (hR.at ha) ((O.hK.2 2 _ rfl).1 n (fun j => .int (f j))) (fun q => by cases q) (by show ¬ (i < 0 ∨ (arrV _ _ _).slots.size ≤ _); rw [arrV_size]; exact hi) rfl rfl hd fun H1 e z oq => ?_
  refine kk.put hR hS hl hz (hR.at ha) e (by simp [Cell.setSlot]) z oq ?_
  show H1[a]? = some (vp_cell _ _)
  rw [e, vp_cell_i, vp_cell_i, arrV_store]
  congr 2
  funext q
  by_cases hq : q = i.toNatClampNeg
  · subst hq; simp [updV, upd]; try rfl
  · simp [updV, upd, hq]
theorem c_zast (O : XOk X cc own F Lo) {n : Nat} {f : Nat → Int32} {i x : Int32} (hz : (xG X).1.1 ≤ a) (ha : σ.2.2.2 a = some (cI 3 n f)) (hi : inb i n) (hd : decode cc pc = .ok (.bastore, 1)) (kk : xWX X (pc + 1) L rest (xup σ a (cI 3 n (upd f i.toNatClampNeg (x &&& 1))))) : xWX X pc L (.int x :: .int i :: .ref a :: rest) σ := by
  intro H locs ls hR hS hl
  refine W.zast O.hx O.hb (hR.at ha) ((O.hK.2 3 _ rfl).1 n (fun j => .int (f j))) (fun q => by cases q) (by show ¬ (i < 0 ∨ (arrV _ _ _).slots.size ≤ _); rw [arrV_size]; exact hi) rfl rfl hd fun H1 e z oq => ?_
  refine kk.put hR hS hl hz (hR.at ha) e (by simp [Cell.setSlot]) z oq ?_
  show H1[a]? = some (vp_cell _ _)
  rw [e, vp_cell_i, vp_cell_i, arrV_store]
  congr 2
  funext q
  by_cases hq : q = i.toNatClampNeg
  · subst hq; simp [updV, upd]; try rfl
  · simp [updV, upd, hq]
theorem c_last (O : XOk X cc own F Lo) {n : Nat} {f : Nat → Int64} {i : Int32} {x : Int64} (hz : (xG X).1.1 ≤ a) (ha : σ.2.2.2 a = some (cL n f)) (hi : inb i n) (hd : decode cc pc = .ok (.lastore, 1)) (kk : xWX X (pc + 1) L rest (xup σ a (cL n (vp_updL f i.toNatClampNeg x)))) : xWX X pc L (.long x :: .int i :: .ref a :: rest) σ := by
  intro H locs ls hR hS hl
  refine W.last O.hx O.hb (hR.at ha) ((O.hK.2 1 _ rfl).1 n (fun j => .long (f j))) (fun q => by cases q) (by show ¬ (i < 0 ∨ (arrV _ _ _).slots.size ≤ _); rw [arrV_size]; exact hi) rfl rfl hd fun H1 e z oq => ?_
  refine kk.put hR hS hl hz (hR.at ha) e (by simp [Cell.setSlot]) z oq ?_
  show H1[a]? = some (vp_cell _ _)
  rw [e, vp_cell_l, vp_cell_l, arrV_store]
  congr 2
  funext q
  by_cases hq : q = i.toNatClampNeg
  · subst hq; simp [updV, vp_updL]
  · simp [updV, vp_updL, hq]
theorem c_alen (O : XOk X cc own F Lo) {t : Nat} {A : vp_A} {ty : FieldType} (ht : xty[t]? = some ty) (ha : σ.2.2.2 a = some (.inl (t, A))) (hd : decode cc pc = .ok (.arraylength, 1)) (kk : xWX X (pc + 1) L (.int (Int32.ofNat A.1) :: rest) σ) : xWX X pc L (.ref a :: rest) σ :=
  fun H locs ls hR hS hl => va_alen (v := Int32.ofNat A.1) O.hx O.hb (O.hK.k t ht) (hR.arr ha) 0 0 rfl rfl rfl hd (kk H locs ls hR hS hl)
theorem Rep.zero {d : Nat} {G : XG} {H : Heap} (h : Rep d G σ H) : Rep 0 G σ H := ⟨h.1, by have := h.2.1; omega, h.2.2⟩
theorem Rep.with {d : Nat} {G : XG} {H : Heap} (h : Rep 0 G σ H) (hd : xslots H + d ≤ σ.2.2.1) : Rep d G σ H := ⟨h.1, hd, h.2.2⟩
/-- what the tables and the old heap say, where the method stands -/
theorem XOk.pre (O : XOk X cc own F Lo) {H : Heap} {locs : List Loc} (hR : Rep (xD X) (xG X) σ H) (hS : va_S (fun q => (xG X).1.1 ≤ q) (xS X).heap H locs) (U : State) (hU : U.heap = H) (hW : (xS X).WarmedH U.vm) : xPre (xG X) σ U := by
  have hvm : (xS X).vm.Alike U.vm := hW.alike
  refine ⟨⟨va_K.moved hvm O.hK.1, fun t ty h => ⟨arrOfT_moved hvm (O.hK.2 t ty h).1, (O.hK.2 t ty h).2.moved hvm⟩⟩, O.hZ, ?_, by rw [hU]; exact hR.zero, by rw [hU]; exact Nat.le_trans O.hz hS.1⟩
  rw [hU]
  exact O.hZ.2 U _ H (fun q hq => hS.2.1 q (Nat.lt_of_lt_of_le hq O.hz) (Nat.not_le.mpr hq)) (O.hZ.1 _ U _ hW O.hst)
theorem xPre.blind {G : XG} {av : List Value} : FrameBlind (va_Pc av (xPre G σ)) := by
  intro a U g mk h
  obtain ⟨h1, h2, h3, h4, h5, h6⟩ := h
  have hvm : U.vm.Alike (U.calling g mk a).vm := Vm.Alike.refl U.vm
  exact ⟨h1, ⟨va_K.moved hvm h2.1, fun t ty h => ⟨arrOfT_moved hvm (h2.2 t ty h).1, (h2.2 t ty h).2.moved hvm⟩⟩, h3, h3.1 U _ _ (State.WarmedH.refl U) h4, h5, h6⟩
theorem xRun_go {st0 : List Value} {σ' : XS} {r : Option Value} {av : Array Value} {H : Heap} {locs : List Loc} {ls : Array Slot} {cells slots mc ms : Nat}
    (hr : va_Run (xP X) (xL X) (xEnv X) (xR X) (xS X) (xM X) (xArgs X) (xBelow X) (xMeth X) (xC X) H locs cells slots mc ms (F0 (xM X) pc ls st0) rest (xQ (xG X) σ.2.2.1 r σ' av) (fun q => (xG X).1.1 ≤ q)) (hR : Rep (xD X) (xG X) σ H) (hS : va_S (fun q => (xG X).1.1 ≤ q) (xS X).heap H locs) (hl : lv_has ls (xC X).maxLocals L)
    (kk : xWX X (pc + 3) L (r.toList ++ rest) σ') : W (xP X) (xL X) (xEnv X) (xR X) (xS X) (xM X) (xArgs X) (xBelow X) (xMeth X) (xC X) H locs cells slots (xQQ X) (F0 (xM X) pc ls st0) := by
  intro T hT Y
  obtain ⟨v, st₀, t, T', L', h0, X', hL, e1, e2, ⟨hv, ⟨hRep, hsl⟩, hz, hk⟩, st⟩ := hr T hT Y
  cases hv
  rw [h0] at hz hk hsl
  have hR2 := hR.2.1
  have hS1 : va_S (fun q => (xG X).1.1 ≤ q) (xS X).heap T'.heap (locs ++ L') := ⟨Nat.le_trans hS.1 (by rw [e1]; exact hz), fun q h1 h2 => by rw [e1, hk q (Nat.lt_of_lt_of_le h1 hS.1) h2]; exact hS.2.1 q h1 h2, fun q hq => by
      rcases List.mem_append.mp hq with h | h
      · exact hS.2.2 q h
      · exact hL q h⟩
  obtain ⟨t2, a1, b1⟩ := W.tight (kk T'.heap (locs ++ L') ls (by rw [e1]; exact hRep.with (by omega)) hS1 hl) T' rfl X'
  exact ⟨t2, st t2 a1, b1⟩
theorem XOk.roomy (O : XOk X cc own F Lo) {H : Heap} {locs : List Loc} (hR : Rep (xD X) (xG X) σ H) (hS : va_S (fun q => (xG X).1.1 ≤ q) (xS X).heap H locs) (hsl : xslots (xS X).heap ≤ xslots H) :
    H.size - (xS X).heap.size + ((xG X).1.2.1 - σ.2.1) ≤ (xR X).cells ∧ xslots H - xslots (xS X).heap + ((xG X).1.2.2.1 - σ.2.2.1) ≤ (xR X).slots := by
  have h1 := O.left hR hS
  have h2 := hR.1
  have h3 := hR.2.1
  rw [O.hcell.1, O.hcell.2]
  omega
theorem c_callV (O : XOk X cc own F Lo) {y : MethodName} {bytes : ByteArray} {mL index fr lo ci : Nat} {ret : Option FieldType} {av fs : List Value} {r : Option Value} {σ' : XS} {q : vw_C} (n : Nat)
    (hM : xMet (xL X) y (ws_ y bytes mL ret) fr lo (xG X) σ (.ref a :: av) r σ') (hG : GoodIn lw_all (wsV own index q.1 y (ws_ y bytes mL ret))) (hd0 : y.cls = q.1 ∧ y.cls ≠ "java/lang/invoke/MethodHandle" ∧ y.cls ≠ "java/lang/invoke/VarHandle" ∧ (parseMethodDescriptor y.desc).map (fun d => d.parameters.length) = some n)
    (hroom : fr + 1 ≤ F ∧ 8 + (mL + 11) + lo ≤ Lo) (ha : σ.2.2.2 a = some (cO ci fs)) (hq : xcl[ci]? = some q) (hn : av.length = n) (hrest : (rest.map fun v => v.category).sum ≤ 8) (hd : decode cc pc = .ok (.invokevirtual index, 3))
    (kk : xWX X (pc + 3) L (r.toList ++ rest) σ') : xWX X pc L (av.reverse ++ .ref a :: rest) σ := by
  intro H locs ls hR hS hl
  refine W.withSlots fun hsl => ?_
  refine xRun_go (va_runV (As := av) (rest := rest) ⟨O.hx, O.hb, rfl, O.hown, O.hts⟩ hM (cwV n O.hts hG rfl rfl rfl hd0 ⟨Nat.le_trans hroom.1 O.hF.1, Nat.le_trans hroom.2 O.hF.2⟩) ⟨xPre.blind, va_recv (tys := []) O.hK.1 (hR.obj ha) hq (q0 := 0) rfl, fun U hU hW => ⟨rfl, O.pre hR hS U hU hW⟩⟩ rfl hn hl.1 rfl (lv_room hrest) hd (O.roomy hR hS hsl)) hR hS hl kk
theorem c_callS (O : XOk X cc own F Lo) {y : MethodName} {bytes : ByteArray} {mL index fr lo : Nat} {ret : Option FieldType} {av : List Value} {r : Option Value} {σ' : XS} (n : Nat)
    (hM : xMet (xL X) y (ws_ y bytes mL ret) fr lo (xG X) σ av r σ') (hG : GoodIn lw_all (va_wsS own index y (ws_ y bytes mL ret))) (hd0 : y.cls ≠ "java/lang/invoke/MethodHandle" ∧ y.cls ≠ "java/lang/invoke/VarHandle" ∧ (parseMethodDescriptor y.desc).map (fun d => d.parameters.length) = some n)
    (hroom : fr + 1 ≤ F ∧ 8 + (mL + 11) + lo ≤ Lo) (hn : av.length = n) (hrest : (rest.map fun v => v.category).sum ≤ 8) (hd : decode cc pc = .ok (.invokestatic index, 3))
    (kk : xWX X (pc + 3) L (r.toList ++ rest) σ') : xWX X pc L (av.reverse ++ rest) σ := by
  intro H locs ls hR hS hl
  refine W.withSlots fun hsl => ?_
  refine xRun_go (va_runS (As := av) (rest := rest) ⟨O.hx, O.hb, rfl, O.hown, O.hts⟩ hM (va_cwS n O.hts hG rfl rfl rfl hd0 ⟨Nat.le_trans hroom.1 O.hF.1, Nat.le_trans hroom.2 O.hF.2⟩) ⟨xPre.blind, fun U hU hW => ⟨rfl, O.pre hR hS U hU hW⟩⟩ rfl hn hl.1 rfl (lv_room hrest) hd (O.roomy hR hS hsl)) hR hS hl kk
end HeapCore
section Ret
variable {S ρ : Type} {X : XC} {cc : ByteArray} {own : String} {F Lo : Nat} {E : S → XS} {pc : Nat} {L : List (Nat × Value)} {rest : List Value} {σ : S} {enc : ρ → Option Value} {v : ρ}
/-- the end that a body owes -/
def retC (X : XC) (enc : ρ → Option Value) (E : S → XS) : ρ → S → Prop := fun v t => xQQ X = MQ (xBelow X) (xQ (xG X) (xslots (xS X).heap + xD X) (enc v) (E t)) (xArgs X) (xS X) (xR X).cells (xR X).slots (fun q => (xG X).1.1 ≤ q)
theorem c_fit (O : XOk X cc own F Lo) {σ : XS} {H : Heap} {locs : List Loc} (hR : Rep (xD X) (xG X) σ H) (hS : va_S (fun q => (xG X).1.1 ≤ q) (xS X).heap H locs) : H.size - (xS X).heap.size ≤ (xR X).cells ∧ xslots H - xslots (xS X).heap ≤ (xR X).slots := by
  have h1 := O.left hR hS
  rw [O.hcell.1, O.hcell.2]
  omega
theorem ret_fit {σ : XS} {H : Heap} {t : State} (hR : Rep (xD X) (xG X) σ H) (ht : t.heap = H) : Rep 0 (xG X) σ t.heap ∧ xslots t.heap + (xslots (xS X).heap + xD X - xslots (xS X).heap) ≤ σ.2.2.1 := by
  rw [ht]
  exact ⟨hR.zero, by have := hR.2.1; omega⟩
theorem s_ireturn (O : XOk X cc own F Lo) {x : Int32} (hr : (xMeth X).sig.returnType = some .int) (he : enc v = some (.int x)) (hd : decode cc pc = .ok (.ireturn, 1)) : Sim X E (retC X enc E) pc L [.int x] σ (some (v, σ)) := by
  refine Sim.ret fun hC H locs ls hR hS hl => ?_
  rw [show xQQ X = _ from hC, he]
  refine W.widen (c_fit O hR hS).1 (c_fit O hR hS).2 (W.iret O.hx O.hb hr (fun t ht hW => ⟨rfl, ret_fit hR ht, hS.F ht⟩) hS.2.2 hd O.hlocks)
theorem s_zreturn (O : XOk X cc own F Lo) {x : Int32} {ty : FieldType} (hr : (xMeth X).sig.returnType = some ty) (he : enc v = some (.int x)) (hd : decode cc pc = .ok (.ireturn, 1)) : Sim X E (retC X enc E) pc L [.int x] σ (chk (narrow ty (.int x) = .int x) (some (v, σ))) := by
  refine Sim.chk fun hn => Sim.ret fun hC H locs ls hR hS hl => ?_
  rw [show xQQ X = _ from hC, he]
  refine W.widen (c_fit O hR hS).1 (c_fit O hR hS).2 (W.zret O.hx O.hb hr hn (fun t ht hW => ⟨rfl, ret_fit hR ht, hS.F ht⟩) hS.2.2 hd O.hlocks)
theorem s_zreturnK (O : XOk X cc own F Lo) {x : Int32} {ty : FieldType} (hr : (xMeth X).sig.returnType = some ty) (he : enc v = some (.int x)) (hn : narrow ty (.int x) = .int x) (hd : decode cc pc = .ok (.ireturn, 1)) : Sim X E (retC X enc E) pc L [.int x] σ (some (v, σ)) := by
  refine Sim.ret fun hC H locs ls hR hS hl => ?_
  rw [show xQQ X = _ from hC, he]
  refine W.widen (c_fit O hR hS).1 (c_fit O hR hS).2 (W.zret O.hx O.hb hr hn (fun t ht hW => ⟨rfl, ret_fit hR ht, hS.F ht⟩) hS.2.2 hd O.hlocks)
theorem s_lreturn (O : XOk X cc own F Lo) {x : Int64} (hr : (xMeth X).sig.returnType = some .long) (he : enc v = some (.long x)) (hd : decode cc pc = .ok (.lreturn, 1)) : Sim X E (retC X enc E) pc L [.long x] σ (some (v, σ)) := by
  refine Sim.ret fun hC H locs ls hR hS hl => ?_
  rw [show xQQ X = _ from hC, he]
  refine W.widen (c_fit O hR hS).1 (c_fit O hR hS).2 (W.lret O.hx O.hb hr (fun t ht hW => ⟨rfl, ret_fit hR ht, hS.F ht⟩) hS.2.2 hd O.hlocks)
theorem s_return (O : XOk X cc own F Lo) (hr : (xMeth X).sig.returnType = none) (he : enc v = none) (hd : decode cc pc = .ok (.return_, 1)) : Sim X E (retC X enc E) pc L [] σ (some (v, σ)) := by
  refine Sim.ret fun hC H locs ls hR hS hl => ?_
  rw [show xQQ X = _ from hC, he]
  refine W.widen (c_fit O hR hS).1 (c_fit O hR hS).2 (W.vret O.hx O.hb hr (fun t ht hW => ⟨rfl, ret_fit hR ht, hS.F ht⟩) hS.2.2 hd O.hlocks)
theorem s_areturn (O : XOk X cc own F Lo) {x : Value} {rt : FieldType} (hx : x = .null ∨ ∃ a, x = .ref a) (hr : (xMeth X).sig.returnType = some rt) (hrt : (∃ n, rt = .object n) ∨ ∃ t, rt = .array t) (he : enc v = some x) (hd : decode cc pc = .ok (.areturn, 1)) : Sim X E (retC X enc E) pc L [x] σ (some (v, σ)) := by
  refine Sim.ret fun hC H locs ls hR hS hl => ?_
  rw [show xQQ X = _ from hC, he]
  refine W.widen (c_fit O hR hS).1 (c_fit O hR hS).2 (W.aret O.hx O.hb hr hrt hx (fun t ht hW => ⟨rfl, ret_fit hR ht, hS.F ht⟩) hS.2.2 hd O.hlocks)
/-- a contract out of the walk of the body -/
theorem xMet_of {l : Launch} {G : XG} {y : MethodName} {fr lo mL : Nat} {ret : Option FieldType} {av : List Value} {σ : S} {body : Option (ρ × S)} {v : ρ} {t : S} (hy : plainFor y = true) (hsl : (lg_sl av).length ≤ mL)
    (walk : ∀ X : XC, xL X = l → xG X = G → XOk X cc y.cls fr lo → (xMeth X).sig.returnType = ret → (xC X).maxLocals = mL → Sim X E (retC X enc E) 0 (lv_args 0 av) [] σ body) (hbody : body = some (v, t)) :
    xMet l y (ws_ y cc mL ret) fr lo G (E σ) av (enc v) (E t) := by
  refine va_MetF (cc := cc) (maxL := mL) (ret := ret) hy rfl ?_
  intro p e s m args below meth c s₁ B hml hv
  obtain ⟨rfl, hK, hZ, hst, hR, hz⟩ := hv
  have hts := atoms_spec (ws := ws_ y cc mL ret) B.pre
  have hts : ∀ w ∈ lw_all, w.before _ s = true := fun w h => hts w (List.mem_cons_of_mem _ h)
  have hl := lv_entry av (n := mL) hsl
  rw [lg_entry_eq]
  let X : XC := (p, l, e, (headSpec (ws_ y cc mL ret) ({ frames := fr, cells := G.1.2.1 - (E σ).2.1, slots := G.1.2.2.1 - (E σ).2.2.1, locals := lo } : Room)).room, s, m, av.toArray, below, meth, c, MQ below (xQ G (E σ).2.2.1 (enc v) (E t)) av.toArray s (G.1.2.1 - (E σ).2.1) (G.1.2.2.1 - (E σ).2.2.1) (fun q => G.1.1 ≤ q), G, (E σ).2.2.1 - xslots s.heap)
  have hsum : xslots s.heap + ((E σ).2.2.1 - xslots s.heap) = (E σ).2.2.1 := by have h9 : xslots s.heap + 0 ≤ (E σ).2.2.1 := hR.2.1; omega
  have O : XOk X cc y.cls fr lo := ⟨B.exec, B.bytes, findClass_of_methodNamed B.named, hts, B.notSynchronized, hK, hZ, hst, hz, by show s.heap.size ≤ G.1.2.1; rw [hR.1]; exact hR.2.2.2.1, by show xslots s.heap + ((E σ).2.2.1 - xslots s.heap) ≤ G.1.2.2.1; rw [hsum]; exact hR.2.2.2.2.1, by show G.1.2.1 - (E σ).2.1 = G.1.2.1 - s.heap.size; rw [hR.1], by show G.1.2.2.1 - (E σ).2.2.1 = G.1.2.2.1 - (xslots s.heap + ((E σ).2.2.1 - xslots s.heap)); rw [hsum], Nat.le_refl _, Nat.le_refl _⟩
  have h := walk X rfl rfl O B.returns hml v t hbody (by show MQ _ _ _ _ _ _ _ = MQ below (xQ G (xslots s.heap + ((E σ).2.2.1 - xslots s.heap)) (enc v) (E t)) av.toArray s _ _ _; rw [hsum]; rfl) s.heap [] _ (hR.with (by show xslots s.heap + ((E σ).2.2.1 - xslots s.heap) ≤ _; omega)) va_S.rf (by show lv_has _ c.maxLocals _; rw [hml]; exact hl)
  have h2 : s.heap.size - s.heap.size = 0 := Nat.sub_self _
  have h3 : xslots s.heap - xslots s.heap = 0 := Nat.sub_self _
  have h4 : W p l e (headSpec (ws_ y cc mL ret) ({ frames := fr, cells := G.1.2.1 - (E σ).2.1, slots := G.1.2.2.1 - (E σ).2.2.1, locals := lo } : Room)).room s m av.toArray below meth c s.heap [] (s.heap.size - s.heap.size) (xslots s.heap - xslots s.heap) (MQ below (xQ G (E σ).2.2.1 (enc v) (E t)) av.toArray s (G.1.2.1 - (E σ).2.1) (G.1.2.2.1 - (E σ).2.2.1) (fun q => G.1.1 ≤ q)) _ := h
  rw [h2, h3] at h4
  exact h4
end Ret
