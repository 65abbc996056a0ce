/-! HEAP OPERATIONS on a made world, and their rows -/
abbrev xI : XS → XS := fun σ => σ
def vI {β : Type} (v : Value) (kk : Int32 → Option β) : Option β := match v with
  | .int x => kk x
  | _ => none
def vL {β : Type} (v : Value) (kk : Int64 → Option β) : Option β := match v with
  | .long x => kk x
  | _ => none
def vR {β : Type} (v : Value) (kk : Option Nat → Option β) : Option β := match v with
  | .ref a => kk (some a)
  | .null => kk none
  | _ => none
/-- a reference that isn't null -/
def dr {β : Type} (r : Option Nat) (kk : Nat → Option β) : Option β := match r with
  | none => none
  | some a => kk a
/-- an object of a class -/
def xo {β : Type} (σ : XS) (a ci : Nat) (kk : List Value → Option β) : Option β := match σ.2.2.2 a with
  | some (.inr (.inl (c, fs))) => if c = ci then kk fs else none
  | _ => none
/-- its field -/
def xf {β : Type} (σ : XS) (a ci k : Nat) (kk : Value → Option β) : Option β := xo σ a ci fun fs => match fs[k]? with
  | some v => kk v
  | none => none
/-- its field, written -/
def xp {β : Type} (σ : XS) (a ci k : Nat) (v : Value) (kk : XS → Option β) : Option β := xo σ a ci fun fs => if σ.1.1 ≤ a then kk (xup σ a (cO ci (fs.set k v))) else none
def xarr {β : Type} (σ : XS) (a t : Nat) (kk : vp_A → Option β) : Option β := match σ.2.2.2 a with
  | some (.inl (u, A)) => if u = t then kk A else none
  | _ => none
def xaI {β : Type} (σ : XS) (t a : Nat) (i : Int32) (kk : Int32 → Option β) : Option β := xarr σ a t fun A => match A with
  | (n, .inl f) => if inb i n then kk (f i.toNatClampNeg) else none
  | _ => none
def xaL {β : Type} (σ : XS) (a : Nat) (i : Int32) (kk : Int64 → Option β) : Option β := xarr σ a 1 fun A => match A with
  | (n, .inr (.inl f)) => if inb i n then kk (f i.toNatClampNeg) else none
  | _ => none
def xaR {β : Type} (σ : XS) (t a : Nat) (i : Int32) (kk : Option Nat → Option β) : Option β := xarr σ a t fun A => match A with
  | (n, .inr (.inr (.inr (.inr f)))) => if inb i n then kk (f i.toNatClampNeg) else none
  | _ => none
def xpI {β : Type} (σ : XS) (t a : Nat) (i x : Int32) (kk : XS → Option β) : Option β := xarr σ a t fun A => match A with
  | (n, .inl f) => if inb i n ∧ σ.1.1 ≤ a then kk (xup σ a (cI t n (upd f i.toNatClampNeg x))) else none
  | _ => none
def xpL {β : Type} (σ : XS) (a : Nat) (i : Int32) (x : Int64) (kk : XS → Option β) : Option β := xarr σ a 1 fun A => match A with
  | (n, .inr (.inl f)) => if inb i n ∧ σ.1.1 ≤ a then kk (xup σ a (cL n (vp_updL f i.toNatClampNeg x))) else none
  | _ => none
/-- what may stand in an array of references -/
def okEl (σ : XS) (t : Nat) (r : Option Nat) : Bool := match r with
  | none => true
  | some v => match σ.2.2.2 v with
    | some (.inr (.inl (c, _))) => (c == 1) || (t == 4 && c == 5)
    | _ => false
def xpR {β : Type} (σ : XS) (t a : Nat) (i : Int32) (r : Option Nat) (kk : XS → Option β) : Option β := xarr σ a t fun A => match A with
  | (n, .inr (.inr (.inr (.inr f)))) => if inb i n ∧ σ.1.1 ≤ a ∧ okEl σ t r = true then kk (xup σ a (cR t n (va_up f i.toNatClampNeg r))) else none
  | _ => none
def xlen {β : Type} (σ : XS) (a : Nat) (kk : Int32 → Option β) : Option β := match σ.2.2.2 a with
  | some (.inl (t, A)) => if t < 7 then kk (Int32.ofNat A.1) else none
  | _ => none
/-- a new cell -/
def xmk {β : Type} (σ : XS) (n : Nat) (c : XCell) (kk : Nat → XS → Option β) : Option β := if σ.2.1 + 1 ≤ σ.1.2.1 ∧ σ.2.2.1 + n ≤ σ.1.2.2.1 then kk σ.2.1 (xnew σ n c) else none
/-- a new array of whole numbers (t: 0 int, 2 byte, 3 boolean), of longs, of references -/
def xmI {β : Type} (σ : XS) (t : Nat) (n : Int32) (kk : Nat → XS → Option β) : Option β := if ¬ n < 0 ∧ n.toNatClampNeg * 8 ≤ 536870912 then xmk σ n.toNatClampNeg (cI t n.toNatClampNeg (fun _ => 0)) kk else none
def xmL {β : Type} (σ : XS) (n : Int32) (kk : Nat → XS → Option β) : Option β := if ¬ n < 0 ∧ n.toNatClampNeg * 8 ≤ 536870912 then xmk σ n.toNatClampNeg (cL n.toNatClampNeg (fun _ => 0)) kk else none
def xmR {β : Type} (σ : XS) (t : Nat) (n : Int32) (kk : Nat → XS → Option β) : Option β := if ¬ n < 0 ∧ n.toNatClampNeg * 8 ≤ 536870912 then xmk σ n.toNatClampNeg (cR t n.toNatClampNeg (fun _ => none)) kk else none
theorem xo_ex {β : Type} {σ : XS} {a ci : Nat} {kk : List Value → Option β} {y : β} (h : xo σ a ci kk = some y) : ∃ fs, σ.2.2.2 a = some (cO ci fs) ∧ kk fs = some y := by
  unfold xo at h
  split at h
  · rename_i c fs e
    split at h
    · rename_i hc
      subst hc
      exact ⟨fs, e, h⟩
    · cases h
  · cases h
theorem xf_ex {β : Type} {σ : XS} {a ci k : Nat} {kk : Value → Option β} {y : β} (h : xf σ a ci k kk = some y) : ∃ fs v, σ.2.2.2 a = some (cO ci fs) ∧ fs[k]? = some v ∧ kk v = some y := by
  obtain ⟨fs, h1, h2⟩ := xo_ex h
  cases e : fs[k]? with
  | none => rw [e] at h2; cases h2
  | some v => rw [e] at h2; exact ⟨fs, v, h1, e, h2⟩
theorem xp_ex {β : Type} {σ : XS} {a ci k : Nat} {v : Value} {kk : XS → Option β} {y : β} (h : xp σ a ci k v kk = some y) : ∃ fs, σ.2.2.2 a = some (cO ci fs) ∧ σ.1.1 ≤ a ∧ kk (xup σ a (cO ci (fs.set k v))) = some y := by
  obtain ⟨fs, h1, h2⟩ := xo_ex h
  split at h2
  · exact ⟨fs, h1, by assumption, h2⟩
  · cases h2
theorem xarr_ex {β : Type} {σ : XS} {a t : Nat} {kk : vp_A → Option β} {y : β} (h : xarr σ a t kk = some y) : ∃ A, σ.2.2.2 a = some (.inl (t, A)) ∧ kk A = some y := by
  unfold xarr at h
  split at h
  · rename_i u A e
    split at h
    · rename_i hc
      subst hc
      exact ⟨A, e, h⟩
    · cases h
  · cases h
theorem xaI_ex {β : Type} {σ : XS} {t a : Nat} {i : Int32} {kk : Int32 → Option β} {y : β} (h : xaI σ t a i kk = some y) : ∃ n f, σ.2.2.2 a = some (cI t n f) ∧ inb i n ∧ kk (f i.toNatClampNeg) = some y := by
  obtain ⟨A, h1, h2⟩ := xarr_ex h
  split at h2
  · split at h2
    · exact ⟨_, _, h1, by assumption, h2⟩
    · cases h2
  · cases h2
theorem xaL_ex {β : Type} {σ : XS} {a : Nat} {i : Int32} {kk : Int64 → Option β} {y : β} (h : xaL σ a i kk = some y) : ∃ n f, σ.2.2.2 a = some (cL n f) ∧ inb i n ∧ kk (f i.toNatClampNeg) = some y := by
  obtain ⟨A, h1, h2⟩ := xarr_ex h
  split at h2
  · split at h2
    · exact ⟨_, _, h1, by assumption, h2⟩
    · cases h2
  · cases h2
theorem xaR_ex {β : Type} {σ : XS} {t a : Nat} {i : Int32} {kk : Option Nat → Option β} {y : β} (h : xaR σ t a i kk = some y) : ∃ n f, σ.2.2.2 a = some (cR t n f) ∧ inb i n ∧ kk (f i.toNatClampNeg) = some y := by
  obtain ⟨A, h1, h2⟩ := xarr_ex h
  split at h2
  · split at h2
    · exact ⟨_, _, h1, by assumption, h2⟩
    · cases h2
  · cases h2
theorem xpI_ex {β : Type} {σ : XS} {t a : Nat} {i x : Int32} {kk : XS → Option β} {y : β} (h : xpI σ t a i x kk = some y) : ∃ n f, σ.2.2.2 a = some (cI t n f) ∧ inb i n ∧ σ.1.1 ≤ a ∧ kk (xup σ a (cI t n (upd f i.toNatClampNeg x))) = some y := by
  obtain ⟨A, h1, h2⟩ := xarr_ex h
  split at h2
  · split at h2
    · rename_i hc
      exact ⟨_, _, h1, hc.1, hc.2, h2⟩
    · cases h2
  · cases h2
theorem xpL_ex {β : Type} {σ : XS} {a : Nat} {i : Int32} {x : Int64} {kk : XS → Option β} {y : β} (h : xpL σ a i x kk = some y) : ∃ n f, σ.2.2.2 a = some (cL n f) ∧ inb i n ∧ σ.1.1 ≤ a ∧ kk (xup σ a (cL n (vp_updL f i.toNatClampNeg x))) = some y := by
  obtain ⟨A, h1, h2⟩ := xarr_ex h
  split at h2
  · split at h2
    · rename_i hc
      exact ⟨_, _, h1, hc.1, hc.2, h2⟩
    · cases h2
  · cases h2
theorem xpR_ex {β : Type} {σ : XS} {t a : Nat} {i : Int32} {r : Option Nat} {kk : XS → Option β} {y : β} (h : xpR σ t a i r kk = some y) : ∃ n f, σ.2.2.2 a = some (cR t n f) ∧ inb i n ∧ σ.1.1 ≤ a ∧ okEl σ t r = true ∧ kk (xup σ a (cR t n (va_up f i.toNatClampNeg r))) = some y := by
  obtain ⟨A, h1, h2⟩ := xarr_ex h
  split at h2
  · split at h2
    · rename_i hc
      exact ⟨_, _, h1, hc.1, hc.2.1, hc.2.2, h2⟩
    · cases h2
  · cases h2
theorem xlen_ex {β : Type} {σ : XS} {a : Nat} {kk : Int32 → Option β} {y : β} (h : xlen σ a kk = some y) : ∃ t A, σ.2.2.2 a = some (.inl (t, A)) ∧ t < 7 ∧ kk (Int32.ofNat A.1) = some y := by
  unfold xlen at h
  split at h
  · split at h
    · exact ⟨_, _, by assumption, by assumption, h⟩
    · cases h
  · cases h
theorem xmk_ex {β : Type} {σ : XS} {n : Nat} {c : XCell} {kk : Nat → XS → Option β} {y : β} (h : xmk σ n c kk = some y) : (σ.2.1 + 1 ≤ σ.1.2.1 ∧ σ.2.2.1 + n ≤ σ.1.2.2.1) ∧ kk σ.2.1 (xnew σ n c) = some y := by
  unfold xmk at h
  split at h
  · exact ⟨by assumption, h⟩
  · cases h
theorem heap_push_of {H H1 : Heap} {x : Cell} (z : H1.size = H.size + 1) (e : H1[H.size]? = some x) (o : ∀ q : Nat, q < H.size → H1[q]? = H[q]?) : H1 = H.push x := by
  apply Array.ext_getElem?
  intro i
  rw [Array.getElem?_push]
  by_cases h : i = H.size
  · rw [if_pos h, h, e]
  · rw [if_neg h]
    by_cases h2 : i < H.size
    · exact o i h2
    · have a1 : H1[i]? = none := by simp; omega
      have a2 : H[i]? = none := by simp; omega
      rw [a1, a2]
section XRows
variable {ρ : Type} {X : XC} {cc : ByteArray} {own : String} {F Lo : Nat} {C : ρ → XS → Prop} {pc : Nat} {L : List (Nat × Value)} {rest : List Value} {σ : XS} {rem : Option (ρ × XS)} {a : Nat}
theorem s_dr {S : Type} {E : S → XS} {D : ρ → S → Prop} {s : S} {r : Option Nat} {st : List Value} {k : Nat → Option (ρ × S)} (h : ∀ b, r = some b → Sim X E D pc L st s (k b)) : Sim X E D pc L st s (dr r k) := by
  cases r with
  | none => exact Sim.none
  | some b => exact h b rfl
theorem x_get (O : XOk X cc own F Lo) {ref Cn : String} {T : u_T} {N ci index : Nat} (hin : ∀ w ∈ u_ws Cn T N, w ∈ lw_all) (hc : xcl[ci]? = some (Cn, T, N)) (k : Nat) (hk : k < N)
    (hq : Cond.fieldLink own index ref (T k).2.1 (T k).2.2.1 ∈ lw_all) (hsame : ∀ x, (xS X).fieldFound? (T k).1 (T k).2.1 (T k).2.2.1 = some x → (xS X).fieldFound? ref (T k).2.1 (T k).2.2.1 = some x) {kv : Value → Option (ρ × XS)}
    (hd : decode cc pc = .ok (.getfield index, 3)) (kk : ∀ v, Sim X xI C (pc + 3) L (v :: rest) σ (kv v)) : Sim X xI C pc L (.ref a :: rest) σ (xf σ a ci k kv) := by
  intro v t hr hC
  obtain ⟨fs, w, h1, h2, h3⟩ := xf_ex hr
  exact c_getf O (σ := σ) h1 hin hc k hk hq hsame h2 hd (kk w v t h3 hC)
theorem s_vI {S : Type} {E : S → XS} {D : ρ → S → Prop} {s : S} {w : Value} {k : Int32 → Option (ρ × S)} (h : ∀ x, Sim X E D pc L (.int x :: rest) s (k x)) : Sim X E D pc L (w :: rest) s (vI w k) := by
  cases w <;> first | exact h _ | exact Sim.none
theorem s_vL {S : Type} {E : S → XS} {D : ρ → S → Prop} {s : S} {w : Value} {k : Int64 → Option (ρ × S)} (h : ∀ x, Sim X E D pc L (.long x :: rest) s (k x)) : Sim X E D pc L (w :: rest) s (vL w k) := by
  cases w <;> first | exact h _ | exact Sim.none
theorem s_vR {S : Type} {E : S → XS} {D : ρ → S → Prop} {s : S} {w : Value} {k : Option Nat → Option (ρ × S)} (h : ∀ r, Sim X E D pc L (va_rf r :: rest) s (k r)) : Sim X E D pc L (w :: rest) s (vR w k) := by
  cases w
  case ref b => exact h (some b)
  case null => exact h none
  all_goals exact Sim.none
theorem c_getN (O : XOk X cc own F Lo) {ref Cn host : String} {T : u_T} {N ci index : Nat} {fs : List Value} {v : Value} (ha : σ.2.2.2 a = some (cO ci fs)) (hin : ∀ w ∈ u_ws Cn T N, w ∈ lw_all) (hc : xcl[ci]? = some (Cn, T, N)) (k : Nat) (hk : k < N)
    (hq : va_Nw (.fieldLinkNest own index ref (T k).2.1 (T k).2.2.1 host) (xS X)) (hsame : ∀ x, (xS X).fieldFound? (T k).1 (T k).2.1 (T k).2.2.1 = some x → (xS X).fieldFound? ref (T k).2.1 (T k).2.2.1 = some x) (hv : fs[k]? = some v)
    (hd : decode cc pc = .ok (.getfield index, 3)) (kk : xWX X (pc + 3) L (v :: rest) σ) : xWX X pc L (.ref a :: rest) σ := by
  intro H locs ls hR hS hl
  exact va_getN (D := (xG X).2.1) (ci := ci) (v := v) (C := Cn) (T := T) (N := N) (tys := []) O.hx O.hb O.hts hin O.hown O.hK.1 (hR.obj ha) 0 rfl hc k hk (va_Nw.use rfl hq) hsame hv hd (kk H locs ls hR hS hl)
theorem x_getN (O : XOk X cc own F Lo) {ref Cn host : String} {T : u_T} {N ci index : Nat} (hin : ∀ w ∈ u_ws Cn T N, w ∈ lw_all) (hc : xcl[ci]? = some (Cn, T, N)) (k : Nat) (hk : k < N)
    (hq : va_Nw (.fieldLinkNest own index ref (T k).2.1 (T k).2.2.1 host) (xS X)) (hsame : ∀ x, (xS X).fieldFound? (T k).1 (T k).2.1 (T k).2.2.1 = some x → (xS X).fieldFound? ref (T k).2.1 (T k).2.2.1 = some x) {kv : Value → Option (ρ × XS)}
    (hd : decode cc pc = .ok (.getfield index, 3)) (kk : ∀ v, Sim X xI C (pc + 3) L (v :: rest) σ (kv v)) : Sim X xI C pc L (.ref a :: rest) σ (xf σ a ci k kv) := by
  intro v t hr hC
  obtain ⟨fs, w, h1, h2, h3⟩ := xf_ex hr
  exact c_getN O (σ := σ) h1 hin hc k hk hq hsame h2 hd (kk w v t h3 hC)
/-- the state knows where the old heap ends -/
theorem xWX.z (h : σ.1 = (xG X).1 → xWX X pc L rest σ) : xWX X pc L rest σ := fun H locs ls hR hS hl => h hR.2.2.1 H locs ls hR hS hl
theorem x_put (O : XOk X cc own F Lo) {ref Cn : String} {T : u_T} {N ci index : Nat} {w : Value} {ty : FieldType} (hin : ∀ w ∈ u_ws Cn T N, w ∈ lw_all) (ty0 : Nat → FieldType) (hty : ∀ k, k < N → parseFieldDescriptor (T k).2.2.1 = some (ty0 k)) (hnm : ∀ a, a < N → ∀ b, b < N → a ≠ b → (T a).2.1 ≠ (T b).2.1) (hc : xcl[ci]? = some (Cn, T, N)) (k : Nat) (hk : k < N)
    (hq : Cond.fieldLink own index ref (T k).2.1 (T k).2.2.1 ∈ lw_all) (hsame : ∀ x, (xS X).fieldFound? (T k).1 (T k).2.1 (T k).2.2.1 = some x → (xS X).fieldFound? ref (T k).2.1 (T k).2.2.1 = some x) (hfin : (T k).2.2.2 = false) (hd0 : parseFieldDescriptor (T k).2.2.1 = some ty) (hn : narrow ty w = w) (hfit : fits ty w = true)
    {kv : XS → Option (ρ × XS)} (hd : decode cc pc = .ok (.putfield index, 3)) (kk : ∀ s, Sim X xI C (pc + 3) L rest s (kv s)) : Sim X xI C pc L (w :: .ref a :: rest) σ (xp σ a ci k w kv) := by
  intro v t hr hC
  obtain ⟨fs, h1, h2, h3⟩ := xp_ex hr
  refine xWX.z fun hz => ?_
  exact c_putf O (σ := σ) (by rw [← hz]; exact h2) h1 hin ty0 hty hnm hc k hk hq hsame hfin hd0 hn hfit hd (kk _ v t h3 hC)
theorem x_putF (O : XOk X cc own F Lo) {ref Cn : String} {T : u_T} {N ci index : Nat} {w : Value} {ty : FieldType} (hin : ∀ w ∈ u_ws Cn T N, w ∈ lw_all) (ty0 : Nat → FieldType) (hty : ∀ k, k < N → parseFieldDescriptor (T k).2.2.1 = some (ty0 k)) (hnm : ∀ a, a < N → ∀ b, b < N → a ≠ b → (T a).2.1 ≠ (T b).2.1) (hc : xcl[ci]? = some (Cn, T, N)) (k : Nat) (hk : k < N)
    (hq : Cond.fieldLink own index ref (T k).2.1 (T k).2.2.1 ∈ lw_all) (hsame : ∀ x, (xS X).fieldFound? (T k).1 (T k).2.1 (T k).2.2.1 = some x → (xS X).fieldFound? ref (T k).2.1 (T k).2.2.1 = some x) (hfin : (T k).2.2.2 = true) (hin2 : (xMeth X).name = "<init>") (hdecl : (T k).1 = own) (hd0 : parseFieldDescriptor (T k).2.2.1 = some ty) (hn : narrow ty w = w) (hfit : fits ty w = true)
    {kv : XS → Option (ρ × XS)} (hd : decode cc pc = .ok (.putfield index, 3)) (kk : ∀ s, Sim X xI C (pc + 3) L rest s (kv s)) : Sim X xI C pc L (w :: .ref a :: rest) σ (xp σ a ci k w kv) := by
  intro v t hr hC
  obtain ⟨fs, ha, hz1, h3⟩ := xp_ex hr
  refine xWX.z fun hz0 => ?_
  have hz : (xG X).1.1 ≤ a := by rw [← hz0]; exact hz1
  have kk1 := kk _ v t h3 hC
  intro H locs ls hR hS hl
  have hap := va_apart (own := own) (cl := xcl) (tys := []) (D := (xG X).2.1) O.hts hin ty0 hty hnm O.hK.1 hc
  obtain ⟨r, h1, hlen, cell, q1, q2, q3, q4⟩ := hR.at ha
  have hr : r = (Cn, T, N) := Option.some.inj (h1.symm.trans hc)
  subst hr
  obtain ⟨hS1, hfc, kC, hkC, hkind⟩ := O.hK.1.1 ci _ hc
  obtain ⟨cf, kf, fi, f, hi, hsl⟩ := hS1 k hk
  have hlay := O.hts _ (hin _ (u_in_lay hk))
  unfold u_lay at hlay
  rw [if_pos hfin] at hlay
  have hst := (u_facts hfc hkC (u_lays O.hts hin hk) hi).1
  have hcf : (xM X).cls = cf := by
    obtain ⟨_, _, c', _, _, _, -, -, hf', -, -, -, hown2, -⟩ := Cond.laysFinal_spec hlay
    have e1 : c' = cf := by have := hi.symm.trans hf'; simp at this; exact this.1.symm
    rw [hdecl] at hown2
    rw [← e1]; exact Option.some.inj (O.hown.symm.trans hown2)
  have h6 := u_fits hfc hkC hkind (Or.inr hlay) hi hd0 hn hfit
  have hl0 : k < fs.length := by rw [show fs.length = N from hlen]; exact hk
  refine W.putFinK O.hx O.hb O.hown (O.hts _ hq) (hsame _ hi) hst hcf hin2 (by rw [q2]; exact h6) q1 q3 (by rw [hsl]; exact k2_hasslot (q4 k hk)) rfl rfl hd fun H' e1 e2 e3 => ?_
  rw [hsl] at e1 ⊢
  exact kk1.put hR hS hl hz q1 e1 (by simp [Cell.setSlot]) e2 e3 ⟨_, hc, by simpa using hlen, t_OB.to (V := updV (vp_V fs) k w) ⟨_, e1, q2, q3, t_set q4 hap hk w⟩ (fun j _ => vp_updV_set hl0 w j)⟩
theorem x_iald (O : XOk X cc own F Lo) {i : Int32} {kv : Int32 → Option (ρ × XS)} (hd : decode cc pc = .ok (.iaload, 1)) (kk : ∀ x, Sim X xI C (pc + 1) L (.int x :: rest) σ (kv x)) : Sim X xI C pc L (.int i :: .ref a :: rest) σ (xaI σ 0 a i kv) := by
  intro v t hr hC
  obtain ⟨n, f, h1, h2, h3⟩ := xaI_ex hr
  exact c_iald O (σ := σ) h1 h2 hd (kk _ v t h3 hC)
theorem x_bald (O : XOk X cc own F Lo) {i : Int32} {kv : Int32 → Option (ρ × XS)} (hd : decode cc pc = .ok (.baload, 1)) (kk : ∀ x, Sim X xI C (pc + 1) L (.int x :: rest) σ (kv x)) : Sim X xI C pc L (.int i :: .ref a :: rest) σ (xaI σ 2 a i kv) := by
  intro v t hr hC
  obtain ⟨n, f, h1, h2, h3⟩ := xaI_ex hr
  exact c_bald O (σ := σ) h1 h2 hd (kk _ v t h3 hC)
theorem x_zald (O : XOk X cc own F Lo) {i : Int32} {kv : Int32 → Option (ρ × XS)} (hd : decode cc pc = .ok (.baload, 1)) (kk : ∀ x, Sim X xI C (pc + 1) L (.int x :: rest) σ (kv x)) : Sim X xI C pc L (.int i :: .ref a :: rest) σ (xaI σ 3 a i kv) := by
  intro v t hr hC
  obtain ⟨n, f, h1, h2, h3⟩ := xaI_ex hr
  exact c_zald O (σ := σ) h1 h2 hd (kk _ v t h3 hC)
theorem x_lald (O : XOk X cc own F Lo) {i : Int32} {kv : Int64 → Option (ρ × XS)} (hd : decode cc pc = .ok (.laload, 1)) (kk : ∀ x, Sim X xI C (pc + 1) L (.long x :: rest) σ (kv x)) : Sim X xI C pc L (.int i :: .ref a :: rest) σ (xaL σ a i kv) := by
  intro v t hr hC
  obtain ⟨n, f, h1, h2, h3⟩ := xaL_ex hr
  exact c_lald O (σ := σ) h1 h2 hd (kk _ v t h3 hC)
theorem x_aald (O : XOk X cc own F Lo) {t : Nat} {ty : FieldType} (ht : xty[t]? = some ty) (hty : ty.isReference = true) {i : Int32} {kv : Option Nat → Option (ρ × XS)} (hd : decode cc pc = .ok (.aaload, 1)) (kk : ∀ r, Sim X xI C (pc + 1) L (va_rf r :: rest) σ (kv r)) : Sim X xI C pc L (.int i :: .ref a :: rest) σ (xaR σ t a i kv) := by
  intro v u hr hC
  obtain ⟨n, f, h1, h2, h3⟩ := xaR_ex hr
  intro H locs ls hR hS hl
  have hlt : i.toNatClampNeg < n := Nat.not_le.mp fun q => h2 (Or.inr q)
  exact W.aald (v := va_rf (f i.toNatClampNeg)) (ty := ty) O.hx O.hb (hR.at h1) ((O.hK.2 t _ ht).1 n (fun j => va_rf (f j))) hty (fun q => by cases q) (by show ¬ (i < 0 ∨ (arrV _ _ _).slots.size ≤ _); rw [arrV_size]; exact h2) (by show (arrV _ _ _).slots[_]? = _; rw [arrV_read _ _ hlt]) rfl rfl hd (kk _ v u h3 hC H locs ls hR hS hl)
theorem x_iast (O : XOk X cc own F Lo) {i x : Int32} {kv : XS → Option (ρ × XS)} (hd : decode cc pc = .ok (.iastore, 1)) (kk : ∀ s, Sim X xI C (pc + 1) L rest s (kv s)) : Sim X xI C pc L (.int x :: .int i :: .ref a :: rest) σ (xpI σ 0 a i x kv) := by
  intro v t hr hC
  obtain ⟨n, f, h1, h2, h3, h4⟩ := xpI_ex hr
  exact xWX.z fun hz => c_iast O (σ := σ) (by rw [← hz]; exact h3) h1 h2 hd (kk _ v t h4 hC)
theorem x_bast (O : XOk X cc own F Lo) {i x : Int32} {kv : XS → Option (ρ × XS)} (hd : decode cc pc = .ok (.bastore, 1)) (kk : ∀ s, Sim X xI C (pc + 1) L rest s (kv s)) : Sim X xI C pc L (.int x :: .int i :: .ref a :: rest) σ (xpI σ 2 a i x.toInt8.toInt32 kv) := by
  intro v t hr hC
  obtain ⟨n, f, h1, h2, h3, h4⟩ := xpI_ex hr
  exact xWX.z fun hz => c_bast O (σ := σ) (by rw [← hz]; exact h3) h1 h2 hd (kk _ v t h4 hC)
theorem x_zast (O : XOk X cc own F Lo) {i x : Int32} {kv : XS → Option (ρ × XS)} (hd : decode cc pc = .ok (.bastore, 1)) (kk : ∀ s, Sim X xI C (pc + 1) L rest s (kv s)) : Sim X xI C pc L (.int x :: .int i :: .ref a :: rest) σ (xpI σ 3 a i (x &&& 1) kv) := by
  intro v t hr hC
  obtain ⟨n, f, h1, h2, h3, h4⟩ := xpI_ex hr
  exact xWX.z fun hz => c_zast O (σ := σ) (by rw [← hz]; exact h3) h1 h2 hd (kk _ v t h4 hC)
theorem x_last (O : XOk X cc own F Lo) {i : Int32} {x : Int64} {kv : XS → Option (ρ × XS)} (hd : decode cc pc = .ok (.lastore, 1)) (kk : ∀ s, Sim X xI C (pc + 1) L rest s (kv s)) : Sim X xI C pc L (.long x :: .int i :: .ref a :: rest) σ (xpL σ a i x kv) := by
  intro v t hr hC
  obtain ⟨n, f, h1, h2, h3, h4⟩ := xpL_ex hr
  exact xWX.z fun hz => c_last O (σ := σ) (by rw [← hz]; exact h3) h1 h2 hd (kk _ v t h4 hC)
theorem x_aast (O : XOk X cc own F Lo) {t : Nat} {Cn : String} (ht : xty[t]? = some (.object Cn)) (hca : ∀ ci r, xcl[ci]? = some r → (ci == 1) || (t == 4 && ci == 5) → xAsg r.1 Cn (xS X)) {i : Int32} {r : Option Nat} {kv : XS → Option (ρ × XS)} (hd : decode cc pc = .ok (.aastore, 1)) (kk : ∀ s, Sim X xI C (pc + 1) L rest s (kv s)) : Sim X xI C pc L (va_rf r :: .int i :: .ref a :: rest) σ (xpR σ t a i r kv) := by
  intro v u hr hC
  obtain ⟨n, f, h1, h2, h3, h4, h5⟩ := xpR_ex hr
  refine xWX.z fun hz => ?_
  have hz1 : (xG X).1.1 ≤ a := by rw [← hz]; exact h3
  have kk1 := kk _ v u h5 hC
  intro H locs ls hR hS hl
  have hlt : i.toNatClampNeg < n := Nat.not_le.mp fun q => h2 (Or.inr q)
  have h0 : ¬ i < 0 := fun q => h2 (Or.inl q)
  cases r with
  | none =>
    refine va_WaastN (C := Cn) O.hx O.hb (hR.at h1) ((O.hK.2 t _ ht).1 n (fun j => va_rf (f j))) (fun h => by cases h) (by show ¬ (i < 0 ∨ (arrV _ _ _).slots.size ≤ _); rw [arrV_size]; exact h2) rfl rfl hd fun H1 e z oq => ?_
    refine kk1.put hR hS hl hz1 (hR.at h1) e (by simp [Cell.setSlot]) z oq ?_
    show H1[a]? = some (vp_cell _ _)
    rw [e, vp_cell_q, vp_cell_q, arrV_store]
    congr 2
    funext q
    by_cases hq : q = i.toNatClampNeg
    · subst hq; simp [updV, va_up, va_rf]
    · simp [updV, va_up, hq]
  | some w =>
    unfold okEl at h4
    simp only at h4
    split at h4
    · rename_i ci fs hw
      obtain ⟨r', hr', hlen, cellV, g1, g2, g3, -⟩ := hR.at hw
      have hcls := (O.hK.1.1 ci r' hr').2
      obtain ⟨kA, comp, k1, k2, k3, -⟩ := (O.hK.2 t _ ht).2
      obtain ⟨kE, hkE, -⟩ := Vm.findClass_spec k3
      have f3 := hca ci r' hr' h4 _ _ hcls.1 k3
      obtain ⟨kC, hkC, -⟩ := hcls.2
      refine W.aast O.hx O.hb (hR.at h1) (fun q h => by cases h) (fun h => by cases h) k1 k2 rfl hkE ⟨h0, by show _ < (arrV _ _ _).slots.size; rw [arrV_size]; exact hlt⟩ g1 (fun q h => by rw [g3] at h; cases h) (by rw [g2]; exact hkC) (by rw [g2]; exact f3) rfl rfl hd fun H1 e z oq => ?_
      refine kk1.put hR hS hl hz1 (hR.at h1) e (by simp [Cell.setSlot]) z oq ?_
      show H1[a]? = some (vp_cell _ _)
      rw [e, vp_cell_q, vp_cell_q, arrV_store]
      congr 2
      funext q
      by_cases hq : q = i.toNatClampNeg
      · subst hq; simp [updV, va_up, va_rf]
      · simp [updV, va_up, hq]
    · cases h4
theorem x_alen (O : XOk X cc own F Lo) {kv : Int32 → Option (ρ × XS)} (hd : decode cc pc = .ok (.arraylength, 1)) (kk : ∀ x, Sim X xI C (pc + 1) L (.int x :: rest) σ (kv x)) : Sim X xI C pc L (.ref a :: rest) σ (xlen σ a kv) := by
  intro v u hr hC
  obtain ⟨t, A, h1, ht, h2⟩ := xlen_ex hr
  obtain ⟨ty, hty⟩ : ∃ ty, xty[t]? = some ty := ⟨xty[t], List.getElem?_eq_getElem ht⟩
  exact c_alen O (σ := σ) hty h1 hd (kk _ v u h2 hC)
theorem xWX.push {st : List Value} {c : XCell} {n : Nat} (kk : xWX X pc L st (xnew σ n c)) {H H1 : Heap} {locs : List Loc} {ls : Array Slot} {x : Cell} {cells slots : Nat} (hR : Rep (xD X) (xG X) σ H) (hS : va_S (fun q => (xG X).1.1 ≤ q) (xS X).heap H locs) (hl : lv_has ls (xC X).maxLocals L)
    (hH : H1 = H.push x) (hn : x.slots.size = n) (hc : σ.2.1 + 1 ≤ σ.1.2.1 ∧ σ.2.2.1 + n ≤ σ.1.2.2.1) (hx : xAt (xG X) H.size c H1) :
    W (xP X) (xL X) (xEnv X) (xR X) (xS X) (xM X) (xArgs X) (xBelow X) (xMeth X) (xC X) H1 locs cells slots (xQQ X) (F0 (xM X) pc ls st) := by
  refine W.tight (kk H1 locs ls (hR.push hH hn (by rw [← hR.2.2.1]; exact hc.1) (by rw [← hR.2.2.1]; exact hc.2) (by rw [← hR.1]; exact hx)) ?_ hl)
  subst hH
  refine ⟨by rw [Array.size_push]; exact Nat.le_succ_of_le hS.1, fun q h1 h2 => ?_, hS.2.2⟩
  rw [Array.getElem?_push, if_neg (Nat.ne_of_lt (Nat.lt_of_lt_of_le h1 hS.1))]
  exact hS.2.1 q h1 h2
theorem XOk.more (O : XOk X cc own F Lo) {H : Heap} {locs : List Loc} {n : Nat} (hR : Rep (xD X) (xG X) σ H) (hS : va_S (fun q => (xG X).1.1 ≤ q) (xS X).heap H locs) (hsl : xslots (xS X).heap ≤ xslots H) (hc : σ.2.1 + 1 ≤ σ.1.2.1 ∧ σ.2.2.1 + n ≤ σ.1.2.2.1) :
    H.size - (xS X).heap.size + 1 ≤ (xR X).cells ∧ xslots H - xslots (xS X).heap + n ≤ (xR X).slots := by
  have h1 := O.left hR hS
  have h2 := hR.1
  have h3 := hR.2.1
  rw [hR.2.2.1] at hc
  rw [O.hcell.1, O.hcell.2]
  omega
theorem x_new (O : XOk X cc own F Lo) {Cn : String} {T : u_T} {N ci index : Nat} (hin : ∀ w ∈ u_ws Cn T N, w ∈ lw_all) (ty : Nat → FieldType) (hty : ∀ k, k < N → parseFieldDescriptor (T k).2.2.1 = some (ty k)) (hc : xcl[ci]? = some (Cn, T, N)) (n : Nat) (hcl : Cond.classLink own index Cn ∈ lw_all) (hinst : Cond.instantiable Cn n ∈ lw_all) (hini : Cond.initialized Cn ∈ lw_all)
    {fs : List Value} (hlen : fs.length = N) (hfs : ∀ j, j < N → defaultValue (ty j) = vp_V fs j) {kv : Nat → XS → Option (ρ × XS)} (hd : decode cc pc = .ok (.new index, 3)) (kk : ∀ q s, Sim X xI C (pc + 3) L (.ref q :: rest) s (kv q s)) : Sim X xI C pc L rest σ (xmk σ n (cO ci fs) kv) := by
  intro v u hr hC
  obtain ⟨h1, h2⟩ := xmk_ex hr
  have kk1 := kk _ _ v u h2 hC
  intro H locs ls hR hS hl
  refine W.withSlots fun hsl => ?_
  have hm := O.more hR hS hsl h1
  have hKn := O.hK.1.1 ci _ hc
  refine W.newcK O.hx O.hb O.hown (O.hts _ hcl) (O.hts _ hinst) (O.hts _ hini) rfl hd hm.1 hm.2 hKn.2.1 rfl fun H1 kC hkC e1 z1 o1 => ?_
  have hH := heap_push_of z1 e1 o1
  have hsz : (blank ((xG X).2.1.1 ci) kC).slots.size = n := by
    obtain ⟨c1, kX', hc1, hk, hord, -, -, hn6⟩ := Cond.instantiable_spec (O.hts _ hinst)
    cases hKn.2.1.symm.trans hc1
    cases hkC.symm.trans hk
    simp [blank]
    exact hn6
  have hob : xAt (xG X) H.size (cO ci fs) H1 := ⟨_, hc, hlen, (u_born ty O.hts hin hKn hkC e1 hty).to hfs⟩
  have hw := kk1.push (cells := H.size - (xS X).heap.size + 1) (slots := xslots H - xslots (xS X).heap + n) hR hS hl hH hsz h1 hob
  rw [← hR.1] at hw
  exact hw
theorem c_newarr (O : XOk X cc own F Lo) {t : Nat} {ty : FieldType} {atype : ArrayType} {A : vp_A} {len : Int32} (ht : xty[t]? = some ty) (hat : newarray.typeOf atype = ty) (hq : ∀ s : State, ∀ c : ClassId, s.vm.findClass ("[" ++ ty.toString) = some c → va_RA s c ty) (har : Cond.arrayClass (newarray.typeOf atype) ∈ lw_all) (hb8 : componentBytes ty ≤ 8)
    (hA : ∀ cA : ClassId, vp_cell cA A = arrV cA len.toNatClampNeg (fun _ => defaultValue ty)) (hra : va_RA (xS X) ((xG X).2.2.1 t) ty → (xS X).vm.findClass ("[" ++ ty.toString) = some ((xG X).2.2.1 t)) (hn : ¬ len < 0 ∧ len.toNatClampNeg * 8 ≤ 536870912) (hc : σ.2.1 + 1 ≤ σ.1.2.1 ∧ σ.2.2.1 + len.toNatClampNeg ≤ σ.1.2.2.1) (hd : decode cc pc = .ok (.newarray atype, 2))
    (kk : xWX X (pc + 2) L (.ref σ.2.1 :: rest) (xnew σ len.toNatClampNeg (.inl (t, A)))) : xWX X pc L (.int len :: rest) σ := by
  intro H locs ls hR hS hl
  refine W.withSlots fun hsl => ?_
  have hm := O.more hR hS hsl hc
  subst hat
  refine va_newaK O.hx O.hb (O.hts _ har) rfl hd rfl hn.1 rfl (Nat.le_trans (Nat.mul_le_mul_left _ hb8) hn.2) hm.1 hm.2 rfl fun H1 cA e1 z1 o1 hAr hNm => ?_
  have hcA : cA = (xG X).2.2.1 t := Option.some.inj (hNm.symm.trans (hra (O.hK.2 t _ ht).2))
  subst hcA
  have hH := heap_push_of z1 e1 o1
  have hw := kk.push (cells := H.size - (xS X).heap.size + 1) (slots := xslots H - xslots (xS X).heap + len.toNatClampNeg) hR hS hl hH (by rw [arrV_size]) hc (show H1[H.size]? = some (vp_cell _ A) by rw [hA]; exact e1)
  rw [← hR.1] at hw
  exact hw
theorem x_newI (O : XOk X cc own F Lo) {len : Int32} {kv : Nat → XS → Option (ρ × XS)} (har : Cond.arrayClass (newarray.typeOf .int) ∈ lw_all) (hd : decode cc pc = .ok (.newarray .int, 2)) (kk : ∀ q s, Sim X xI C (pc + 2) L (.ref q :: rest) s (kv q s)) : Sim X xI C pc L (.int len :: rest) σ (xmI σ 0 len kv) := by
  intro v u hr hC
  unfold xmI at hr
  split at hr
  · rename_i hn
    obtain ⟨h1, h2⟩ := xmk_ex hr
    exact c_newarr O (t := 0) (σ := σ) (A := (len.toNatClampNeg, .inl (fun _ => 0))) rfl rfl (fun _ _ h => h) har (by decide) (fun _ => rfl) (fun h => h) hn h1 hd (kk _ _ v u h2 hC)
  · cases hr
theorem x_newB (O : XOk X cc own F Lo) {len : Int32} {kv : Nat → XS → Option (ρ × XS)} (har : Cond.arrayClass (newarray.typeOf .byte) ∈ lw_all) (hd : decode cc pc = .ok (.newarray .byte, 2)) (kk : ∀ q s, Sim X xI C (pc + 2) L (.ref q :: rest) s (kv q s)) : Sim X xI C pc L (.int len :: rest) σ (xmI σ 2 len kv) := by
  intro v u hr hC
  unfold xmI at hr
  split at hr
  · rename_i hn
    obtain ⟨h1, h2⟩ := xmk_ex hr
    exact c_newarr O (t := 2) (σ := σ) (A := (len.toNatClampNeg, .inl (fun _ => 0))) rfl rfl (fun _ _ h => h) har (by decide) (fun _ => rfl) (fun h => h) hn h1 hd (kk _ _ v u h2 hC)
  · cases hr
theorem x_newZ (O : XOk X cc own F Lo) {len : Int32} {kv : Nat → XS → Option (ρ × XS)} (har : Cond.arrayClass (newarray.typeOf .boolean) ∈ lw_all) (hd : decode cc pc = .ok (.newarray .boolean, 2)) (kk : ∀ q s, Sim X xI C (pc + 2) L (.ref q :: rest) s (kv q s)) : Sim X xI C pc L (.int len :: rest) σ (xmI σ 3 len kv) := by
  intro v u hr hC
  unfold xmI at hr
  split at hr
  · rename_i hn
    obtain ⟨h1, h2⟩ := xmk_ex hr
    exact c_newarr O (t := 3) (σ := σ) (A := (len.toNatClampNeg, .inl (fun _ => 0))) rfl rfl (fun _ _ h => h) har (by decide) (fun _ => rfl) (fun h => h) hn h1 hd (kk _ _ v u h2 hC)
  · cases hr
theorem x_newL (O : XOk X cc own F Lo) {len : Int32} {kv : Nat → XS → Option (ρ × XS)} (har : Cond.arrayClass (newarray.typeOf .long) ∈ lw_all) (hd : decode cc pc = .ok (.newarray .long, 2)) (kk : ∀ q s, Sim X xI C (pc + 2) L (.ref q :: rest) s (kv q s)) : Sim X xI C pc L (.int len :: rest) σ (xmL σ len kv) := by
  intro v u hr hC
  unfold xmL at hr
  split at hr
  · rename_i hn
    obtain ⟨h1, h2⟩ := xmk_ex hr
    exact c_newarr O (t := 1) (σ := σ) (A := (len.toNatClampNeg, .inr (.inl (fun _ => 0)))) rfl rfl (fun _ _ h => h) har (by decide) (fun _ => rfl) (fun h => h) hn h1 hd (kk _ _ v u h2 hC)
  · cases hr
theorem x_newR (O : XOk X cc own F Lo) {t index : Nat} {Cn : String} {len : Int32} {kv : Nat → XS → Option (ρ × XS)} (ht : xty[t]? = some (.object Cn)) (hcl : Cond.classLink own index Cn ∈ lw_all) (hover : va_AO Cn (xS X)) (hd : decode cc pc = .ok (.anewarray index, 3)) (kk : ∀ q s, Sim X xI C (pc + 3) L (.ref q :: rest) s (kv q s)) : Sim X xI C pc L (.int len :: rest) σ (xmR σ t len kv) := by
  intro v u hr hC
  unfold xmR at hr
  split at hr
  · rename_i hn
    obtain ⟨h1, h2⟩ := xmk_ex hr
    have kk1 := kk _ _ v u h2 hC
    intro H locs ls hR hS hl
    refine W.withSlots fun hsl => ?_
    have hm := O.more hR hS hsl h1
    refine W.anew O.hx O.hb O.hown (O.hts _ hcl) (va_AO.use hover) rfl hd rfl hn.1 (by omega) hm.1 hm.2 fun cA kA comp f1 f2 f3 f4 => ?_
    obtain ⟨kA2, comp2, r1, r2, r3, r4⟩ := (O.hK.2 t _ ht).2
    have hcA : cA = (xG X).2.2.1 t := Option.some.inj (f1.symm.trans r4)
    subst hcA
    have hw := kk1.push (cells := H.size - (xS X).heap.size + 1) (slots := xslots H - xslots (xS X).heap + len.toNatClampNeg) (x := { cls := (xG X).2.2.1 t, slots := Array.replicate len.toNatClampNeg .null, vm := .none }) hR hS hl rfl (by simp) h1 (show (H.push _)[H.size]? = some (vp_cell _ _) by rw [Array.getElem?_push_size, vp_cell_q]; exact congrArg some (arrV_new _ _ _))
    rw [← hR.1] at hw
    exact hw
  · cases hr
end XRows
