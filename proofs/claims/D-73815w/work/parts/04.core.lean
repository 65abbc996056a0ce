/-! THE MACHINE UNDER THE COMBINATORS: a world by a partial map from addresses to cells, its exact size; contracts by partial functions -/
abbrev XG : Type := (Nat × Nat × Nat × (Nat → Option Nat)) × va_G × (Nat → ClassId) × (Nat → ClassId) × (State → Heap → Prop)
def xslots (H : Heap) : Nat := (H.toList.map (fun c => c.slots.size)).sum
def xAt (G : XG) (a : Nat) (c : XCell) (H : Heap) : Prop := match c with
  | .inl A => H[a]? = some (vp_cell (G.2.2.1 A.1) A.2)
  | .inr (.inl o) => ∃ r : vw_C, xcl[o.1]? = some r ∧ o.2.length = r.2.2 ∧ t_OB a (G.2.1.1 o.1) r.2.2 (G.2.1.2 o.1) H (vp_V o.2)
  | .inr (.inr v) => H[a]? = some { cls := G.2.2.2.1 v.1, slots := v.2.toArray, vm := .none }
def Rep (d : Nat) (G : XG) (σ : XS) (H : Heap) : Prop := H.size = σ.2.1 ∧ xslots H + d ≤ σ.2.2.1 ∧ σ.1 = G.1 ∧ σ.2.1 ≤ G.1.2.1 ∧ σ.2.2.1 ≤ G.1.2.2.1 ∧ ∀ (a : Nat) (c : XCell), σ.2.2.2 a = some c → xAt G a c H
/-- what holds of the tables, and of the old heap's statics, all through -/
def xK (G : XG) (U : State) : Prop := va_K G.2.1 xcl [] U ∧ ∀ (t : Nat) (ty : FieldType), xty[t]? = some ty → ArrOfT U (G.2.2.1 t) ty ∧ va_RA U (G.2.2.1 t) ty
def xZ (G : XG) : Prop := (∀ (u U : State) (H : Heap), u.WarmedH U.vm → G.2.2.2.2 u H → G.2.2.2.2 U H) ∧ (∀ (U : State) (H H1 : Heap), (∀ a : Nat, a < G.1.1 → H1[a]? = H[a]?) → G.2.2.2.2 U H → G.2.2.2.2 U H1)
def xPre (G : XG) (σ : XS) (U : State) : Prop := xK G U ∧ xZ G ∧ G.2.2.2.2 U U.heap ∧ Rep 0 G σ U.heap ∧ G.1.1 ≤ U.heap.size
def xQ (G : XG) (n0 : Nat) (r : Option Value) (σ : XS) : Array Value → State → Outcome → State → Prop := fun _ st oc t => oc = .returned r ∧ (Rep 0 G σ t.heap ∧ xslots t.heap + (n0 - xslots st.heap) ≤ σ.2.2.1) ∧ va_F (fun q => G.1.1 ≤ q) st t
def xMet (l : Launch) (y : MethodName) (ws : List Cond) (fr lo : Nat) (G : XG) (σ : XS) (av : List Value) (r : Option Value) (σ' : XS) : Prop :=
  Met l y ws ({ frames := fr, cells := G.1.2.1 - σ.2.1, slots := G.1.2.2.1 - σ.2.2.1, locals := lo } : Room) (va_Pc av (xPre G σ)) (xQ G σ.2.2.1 r σ') (G.1.2.1 - σ.2.1) (G.1.2.2.1 - σ.2.2.1) (fun q => G.1.1 ≤ q)
theorem xAt.lt {G : XG} {a : Nat} {c : XCell} {H : Heap} (h : xAt G a c H) : a < H.size := by
  match c, h with
  | .inl A, h => exact (Array.getElem?_eq_some_iff.mp h).1
  | .inr (.inl o), h =>
    obtain ⟨r, -, -, cell, h1, -⟩ := h
    exact (Array.getElem?_eq_some_iff.mp h1).1
  | .inr (.inr v), h => exact (Array.getElem?_eq_some_iff.mp h).1
theorem xAt.kept {G : XG} {a : Nat} {c : XCell} {H H1 : Heap} (h : xAt G a c H) (hq : H1[a]? = H[a]?) : xAt G a c H1 := by
  match c, h with
  | .inl A, h => exact hq.trans h
  | .inr (.inl o), h =>
    obtain ⟨r, h1, h2, h3⟩ := h
    exact ⟨r, h1, h2, h3.kept hq⟩
  | .inr (.inr v), h => exact hq.trans h
theorem xslots_congr {H H1 : Heap} (hz : H1.size = H.size) (h : ∀ (i : Nat) (c c1 : Cell), H[i]? = some c → H1[i]? = some c1 → c1.slots.size = c.slots.size) : xslots H1 = xslots H := by
  unfold xslots
  congr 1
  apply List.ext_getElem?
  intro i
  rw [List.getElem?_map, List.getElem?_map, Array.getElem?_toList, Array.getElem?_toList]
  cases e : H[i]? with
  | none =>
    have h1 : H.size ≤ i := by simpa using e
    have h2 : H1[i]? = none := by simp; omega
    rw [h2]
  | some c =>
    have h1 : i < H1.size := by rw [hz]; exact (Array.getElem?_eq_some_iff.mp e).1
    obtain ⟨c1, e1⟩ : ∃ c1, H1[i]? = some c1 := ⟨H1[i], Array.getElem?_eq_getElem h1⟩
    rw [e1]
    show some c1.slots.size = some c.slots.size
    rw [h i c c1 e e1]
theorem xslots_set {H H1 : Heap} {a : Nat} {c c1 : Cell} (hz : H1.size = H.size) (h : H[a]? = some c) (h1 : H1[a]? = some c1) (hs : c1.slots.size = c.slots.size) (ho : ∀ q : Nat, q ≠ a → H1[q]? = H[q]?) : xslots H1 = xslots H := by
  refine xslots_congr hz fun i x x1 e e1 => ?_
  by_cases hi : i = a
  · subst hi
    rw [h] at e; rw [h1] at e1
    cases e; cases e1
    exact hs
  · rw [ho i hi, e] at e1
    cases e1
    rfl
theorem xslots_push (H : Heap) (c : Cell) : xslots (H.push c) = xslots H + c.slots.size := by
  unfold xslots
  simp
theorem Rep.put {d : Nat} {G : XG} {σ : XS} {H H1 : Heap} {a : Nat} {c : XCell} {x x1 : Cell} (h : Rep d G σ H) (hz : H1.size = H.size) (hx : H[a]? = some x) (hx1 : H1[a]? = some x1) (hs : x1.slots.size = x.slots.size) (ho : ∀ q : Nat, q ≠ a → H1[q]? = H[q]?) (hc : xAt G a c H1) : Rep d G (xup σ a c) H1 := by
  obtain ⟨h1, h2, h3, h4, h5, h6⟩ := h
  refine ⟨hz.trans h1, by rw [xslots_set hz hx hx1 hs ho]; exact h2, h3, h4, h5, fun b d hb => ?_⟩
  unfold xup hup at hb
  by_cases e : b = a
  · subst e
    simp at hb
    subst hb
    exact hc
  · simp [e] at hb
    exact (h6 b d hb).kept (ho b e)
theorem Rep.push {d : Nat} {G : XG} {σ : XS} {H H1 : Heap} {c : XCell} {x : Cell} {n : Nat} (h : Rep d G σ H) (hH : H1 = H.push x) (hn : x.slots.size = n) (hc : σ.2.1 + 1 ≤ G.1.2.1) (hs : σ.2.2.1 + n ≤ G.1.2.2.1) (hx : xAt G σ.2.1 c H1) : Rep d G (xnew σ n c) H1 := by
  obtain ⟨h1, h2, h3, h4, h5, h6⟩ := h
  subst hH
  refine ⟨by rw [Array.size_push, h1]; rfl, by rw [xslots_push, hn]; show xslots H + n + d ≤ σ.2.2.1 + n; omega, h3, hc, hs, fun b d hb => ?_⟩
  unfold xnew hup at hb
  by_cases e : b = σ.2.1
  · subst e
    simp at hb
    subst hb
    exact hx
  · simp [e] at hb
    have hb1 := h6 b d hb
    exact hb1.kept (by rw [Array.getElem?_push]; simp; intro hh; exact absurd hh (Nat.ne_of_lt hb1.lt))
section XWX
abbrev XC : Type := Program × Launch × Env × Room × State × MethodId × Array Value × List Frame × Method × Code × (State → Prop) × XG × Nat
abbrev xP (X : XC) : Program := X.1
abbrev xL (X : XC) : Launch := X.2.1
abbrev xEnv (X : XC) : Env := X.2.2.1
abbrev xR (X : XC) : Room := X.2.2.2.1
abbrev xS (X : XC) : State := X.2.2.2.2.1
abbrev xM (X : XC) : MethodId := X.2.2.2.2.2.1
abbrev xArgs (X : XC) : Array Value := X.2.2.2.2.2.2.1
abbrev xBelow (X : XC) : List Frame := X.2.2.2.2.2.2.2.1
abbrev xMeth (X : XC) : Method := X.2.2.2.2.2.2.2.2.1
abbrev xC (X : XC) : Code := X.2.2.2.2.2.2.2.2.2.1
abbrev xQQ (X : XC) : State → Prop := X.2.2.2.2.2.2.2.2.2.2.1
abbrev xG (X : XC) : XG := X.2.2.2.2.2.2.2.2.2.2.2.1
/-- the slots that the state counts beyond the heap's own -/
abbrev xD (X : XC) : Nat := X.2.2.2.2.2.2.2.2.2.2.2.2
/-- where a method stands: any heap that holds the world, any locals that hold the list -/
def xWX (X : XC) (pc : Nat) (L : List (Nat × Value)) (st : List Value) (σ : XS) : Prop :=
  ∀ (H : Heap) (locs : List Loc) (ls : Array Slot), Rep (xD X) (xG X) σ H → va_S (fun q => (xG X).1.1 ≤ q) (xS X).heap H locs → lv_has ls (xC X).maxLocals L →
    W (xP X) (xL X) (xEnv X) (xR X) (xS X) (xM X) (xArgs X) (xBelow X) (xMeth X) (xC X) H locs (H.size - (xS X).heap.size) (xslots H - xslots (xS X).heap) (xQQ X) (F0 (xM X) pc ls st)
/-- what is fixed in an invocation: the machine, the code, the words, the tables, the room -/
def XOk (X : XC) (cc : ByteArray) (own : String) (F Lo : Nat) : Prop :=
  (xP X).tables.exec = Jvm.exec ∧ (xC X).code = cc ∧ (xS X).vm.findClass own = some (xM X).cls ∧ (∀ w ∈ lw_all, w.before (xArgs X) (xS X) = true) ∧ (xMeth X).locks = false ∧
  xK (xG X) (xS X) ∧ xZ (xG X) ∧ (xG X).2.2.2.2 (xS X) (xS X).heap ∧ (xG X).1.1 ≤ (xS X).heap.size ∧ (xS X).heap.size ≤ (xG X).1.2.1 ∧ xslots (xS X).heap + xD X ≤ (xG X).1.2.2.1 ∧
  (xR X).cells = (xG X).1.2.1 - (xS X).heap.size ∧ (xR X).slots = (xG X).1.2.2.1 - (xslots (xS X).heap + xD X) ∧ F ≤ (xR X).frames ∧ Lo ≤ (xR X).locals
theorem XOk.hx {X : XC} {cc : ByteArray} {own : String} {F Lo : Nat} (O : XOk X cc own F Lo) : (xP X).tables.exec = Jvm.exec := O.1
theorem XOk.hb {X : XC} {cc : ByteArray} {own : String} {F Lo : Nat} (O : XOk X cc own F Lo) : (xC X).code = cc := O.2.1
theorem XOk.hown {X : XC} {cc : ByteArray} {own : String} {F Lo : Nat} (O : XOk X cc own F Lo) : (xS X).vm.findClass own = some (xM X).cls := O.2.2.1
theorem XOk.hts {X : XC} {cc : ByteArray} {own : String} {F Lo : Nat} (O : XOk X cc own F Lo) : ∀ w ∈ lw_all, w.before (xArgs X) (xS X) = true := O.2.2.2.1
theorem XOk.hlocks {X : XC} {cc : ByteArray} {own : String} {F Lo : Nat} (O : XOk X cc own F Lo) : (xMeth X).locks = false := O.2.2.2.2.1
theorem XOk.hK {X : XC} {cc : ByteArray} {own : String} {F Lo : Nat} (O : XOk X cc own F Lo) : xK (xG X) (xS X) := O.2.2.2.2.2.1
theorem XOk.hZ {X : XC} {cc : ByteArray} {own : String} {F Lo : Nat} (O : XOk X cc own F Lo) : xZ (xG X) := O.2.2.2.2.2.2.1
theorem XOk.hst {X : XC} {cc : ByteArray} {own : String} {F Lo : Nat} (O : XOk X cc own F Lo) : (xG X).2.2.2.2 (xS X) (xS X).heap := O.2.2.2.2.2.2.2.1
theorem XOk.hz {X : XC} {cc : ByteArray} {own : String} {F Lo : Nat} (O : XOk X cc own F Lo) : (xG X).1.1 ≤ (xS X).heap.size := O.2.2.2.2.2.2.2.2.1
theorem XOk.hcap {X : XC} {cc : ByteArray} {own : String} {F Lo : Nat} (O : XOk X cc own F Lo) : (xS X).heap.size ≤ (xG X).1.2.1 ∧ xslots (xS X).heap + xD X ≤ (xG X).1.2.2.1 := ⟨O.2.2.2.2.2.2.2.2.2.1, O.2.2.2.2.2.2.2.2.2.2.1⟩
theorem XOk.hcell {X : XC} {cc : ByteArray} {own : String} {F Lo : Nat} (O : XOk X cc own F Lo) : (xR X).cells = (xG X).1.2.1 - (xS X).heap.size ∧ (xR X).slots = (xG X).1.2.2.1 - (xslots (xS X).heap + xD X) := ⟨O.2.2.2.2.2.2.2.2.2.2.2.1, O.2.2.2.2.2.2.2.2.2.2.2.2.1⟩
theorem XOk.hF {X : XC} {cc : ByteArray} {own : String} {F Lo : Nat} (O : XOk X cc own F Lo) : F ≤ (xR X).frames ∧ Lo ≤ (xR X).locals := O.2.2.2.2.2.2.2.2.2.2.2.2.2
/-- the room that is left where the world is known -/
theorem XOk.left {X : XC} {cc : ByteArray} {own : String} {F Lo : Nat} (O : XOk X cc own F Lo) {σ : XS} {H : Heap} {locs : List Loc} (hR : Rep (xD X) (xG X) σ H) (hS : va_S (fun q => (xG X).1.1 ≤ q) (xS X).heap H locs) :
    (xS X).heap.size ≤ H.size ∧ H.size ≤ (xG X).1.2.1 ∧ xslots H + xD X ≤ (xG X).1.2.2.1 := ⟨hS.1, by rw [hR.1]; exact hR.2.2.2.1, Nat.le_trans hR.2.1 hR.2.2.2.2.1⟩
end XWX
/-- how many slots the cells from a place on have -/
theorem xslots_drop {H0 H : Heap} (hz : H0.size ≤ H.size) (h : ∀ (a : Nat) (c : Cell), H0[a]? = some c → ∃ c', H[a]? = some c' ∧ c'.slots.size = c.slots.size) : xslots H = xslots H0 + ((H.toList.drop H0.size).map (fun c => c.slots.size)).sum := by
  have e : (H.toList.take H0.size).map (fun c => c.slots.size) = H0.toList.map (fun c => c.slots.size) := by
    apply List.ext_getElem?
    intro i
    rw [List.getElem?_map, List.getElem?_map, List.getElem?_take, Array.getElem?_toList]
    by_cases hi : i < H0.size
    · rw [if_pos hi, Array.getElem?_toList]
      obtain ⟨c, hc⟩ : ∃ c, H0[i]? = some c := ⟨H0[i], Array.getElem?_eq_getElem hi⟩
      obtain ⟨c', h1, h2⟩ := h i c hc
      rw [hc, h1]
      show some c'.slots.size = some c.slots.size
      rw [h2]
    · rw [if_neg hi, Array.getElem?_toList]
      have : H0[i]? = none := by simp; omega
      rw [this]
  unfold xslots
  rw [← e, ← List.sum_append, ← List.map_append, List.take_append_drop]
section Tight
variable {p : Program} {l : Launch} {e : Env} {R : Room} {s : State} {m : MethodId} {args : Array Value} {below : List Frame} {meth : Method} {c : Code} {H : Heap} {locs : List Loc} {cells slots : Nat} {Q : State → Prop} {g : JFrame}
/-- the room that was used is what the heap shows -/
theorem W.tight (h : W p l e R s m args below meth c H locs (H.size - s.heap.size) (xslots H - xslots s.heap) Q g) : W p l e R s m args below meth c H locs cells slots Q g := by
  intro T hT X
  refine h T hT { X with same := ?_ }
  subst hT
  obtain ⟨a1, a2, a3, a4, a5, a6⟩ := X.same
  have b2 : s.heap.size ≤ T.heap.size := a2
  have b6 : xslots T.heap = xslots s.heap + ((T.heap.toList.drop s.heap.size).map (fun c => c.slots.size)).sum := xslots_drop b2 fun a c hc => by
    obtain ⟨c', h1, -, h2, -⟩ := a6 a c hc
    exact ⟨c', h1, h2⟩
  refine ⟨a1, a2, ?_, a4, ?_, a6⟩
  · show T.heap.size ≤ s.heap.size + (T.heap.size - s.heap.size)
    omega
  · show ((T.heap.toList.drop s.heap.size).map (fun c => c.slots.size)).sum ≤ _
    omega
/-- the old cells' slots stay as many -/
theorem stand_slots {T : State} (X : Stand p l e R s m args below meth c T locs cells slots) : xslots s.heap ≤ xslots T.heap := by
  obtain ⟨a1, a2, a3, a4, a5, a6⟩ := X.same
  have b2 : s.heap.size ≤ T.heap.size := a2
  have b6 : xslots T.heap = xslots s.heap + ((T.heap.toList.drop s.heap.size).map (fun c => c.slots.size)).sum := xslots_drop b2 fun a c hc => by
    obtain ⟨c', h1, -, h2, -⟩ := a6 a c hc
    exact ⟨c', h1, h2⟩
  omega
theorem W.withSlots (h : xslots s.heap ≤ xslots H → W p l e R s m args below meth c H locs cells slots Q g) : W p l e R s m args below meth c H locs cells slots Q g := fun T hT X => h (by rw [← hT]; exact stand_slots X) T hT X
end Tight
