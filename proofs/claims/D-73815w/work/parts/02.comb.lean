/-! COMBINATORS: the pure side of every method: partial functions over a state; a loop by the relation of its steps -/
def nm {α : Type _} {β : Type _} (e : α) (k : α → β) : β := k e
def bnd {α S β : Type _} (o : Option (α × S)) (k : α → S → Option β) : Option β := match o with
  | none => none
  | some q => k q.1 q.2
def chk {β : Type _} (c : Prop) [Decidable c] (k : Option β) : Option β := if c then k else none
abbrev inb (i : Int32) (n : Nat) : Prop := ¬ (i < 0 ∨ n ≤ i.toNatClampNeg)
theorem bnd_some {α S β : Type _} {a : α} {s : S} {k : α → S → Option β} : bnd (some (a, s)) k = k a s := rfl
theorem bnd_none {α S β : Type _} {k : α → S → Option β} : bnd none k = none := rfl
theorem bnd_ex {α S β : Type _} {o : Option (α × S)} {k : α → S → Option β} {y : β} (h : bnd o k = some y) : ∃ a s, o = some (a, s) ∧ k a s = some y := by
  cases o with
  | none => cases h
  | some q => exact ⟨q.1, q.2, rfl, h⟩
theorem chk_pos {β : Type _} {c : Prop} [Decidable c] {k : Option β} (h : c) : chk c k = k := if_pos h
theorem chk_ex {β : Type _} {c : Prop} [Decidable c] {k : Option β} {y : β} (h : chk c k = some y) : c ∧ k = some y := by
  unfold chk at h
  split at h
  · exact ⟨by assumption, h⟩
  · cases h
def itO {A B S : Type _} (step : A → S → Option ((A ⊕ B) × S)) : Nat → A → S → Option (B × S)
  | 0, _, _ => none
  | n + 1, a, s => match step a s with
    | none => none
    | some (.inl a', s') => itO step n a' s'
    | some (.inr b, s') => some (b, s')
theorem itO_more {A B S : Type _} {step : A → S → Option ((A ⊕ B) × S)} : ∀ (n k : Nat) (a : A) (s : S) (y : B × S), itO step n a s = some y → itO step (n + k) a s = some y := by
  intro n
  induction n with
  | zero => intro k a s y h; cases h
  | succ n ih =>
    intro k a s y h
    rw [Nat.succ_add]
    unfold itO at h ⊢
    cases hs : step a s with
    | none => rw [hs] at h; cases h
    | some q =>
      obtain ⟨d, s'⟩ := q
      rw [hs] at h
      cases d with
      | inl a' => exact ih k a' s' y h
      | inr b => exact h
theorem itO_same {A B S : Type _} {step : A → S → Option ((A ⊕ B) × S)} {n m : Nat} {a : A} {s : S} {y z : B × S} (h : itO step n a s = some y) (h2 : itO step m a s = some z) : y = z := by
  have e1 := itO_more n m a s y h
  have e2 := itO_more m n a s z h2
  rw [Nat.add_comm] at e2
  exact Option.some.inj (e1.symm.trans e2)
noncomputable def whileO {A B S : Type _} (step : A → S → Option ((A ⊕ B) × S)) (a : A) (s : S) : Option (B × S) :=
  @dite _ (∃ n y, itO step n a s = some y) (Classical.propDecidable _) (fun h => some (Classical.choose (Classical.choose_spec h))) (fun _ => none)
theorem whileO_of {A B S : Type _} {step : A → S → Option ((A ⊕ B) × S)} {n : Nat} {a : A} {s : S} {y : B × S} (h : itO step n a s = some y) : whileO step a s = some y := by
  have he : ∃ n y, itO step n a s = some y := ⟨n, y, h⟩
  unfold whileO
  rw [dif_pos he]
  exact congrArg some (itO_same (Classical.choose_spec (Classical.choose_spec he)) h)
theorem whileO_ex {A B S : Type _} {step : A → S → Option ((A ⊕ B) × S)} {a : A} {s : S} {y : B × S} (h : whileO step a s = some y) : ∃ n, itO step n a s = some y := by
  unfold whileO at h
  split at h
  · rename_i he
    exact ⟨_, (Classical.choose_spec (Classical.choose_spec he)).trans h⟩
  · cases h
/-- one step of a loop that goes on -/
theorem whileO_next {A B S : Type _} {step : A → S → Option ((A ⊕ B) × S)} {a a' : A} {s s' : S} (h : step a s = some (.inl a', s')) : whileO step a s = whileO step a' s' := by
  cases hw : whileO step a' s' with
  | some y =>
    obtain ⟨n, hn⟩ := whileO_ex hw
    exact whileO_of (n := n + 1) (by unfold itO; rw [h]; exact hn)
  | none =>
    cases hv : whileO step a s with
    | none => rfl
    | some y =>
      obtain ⟨n, hn⟩ := whileO_ex hv
      cases n with
      | zero => cases hn
      | succ n =>
        unfold itO at hn
        rw [h] at hn
        rw [whileO_of hn] at hw
        cases hw
/-- the last step of a loop -/
theorem whileO_last {A B S : Type _} {step : A → S → Option ((A ⊕ B) × S)} {a : A} {b : B} {s s' : S} (h : step a s = some (.inr b, s')) : whileO step a s = some (b, s') :=
  whileO_of (n := 1) (by unfold itO; rw [h])
/-- a loop by an invariant and a measure -/
theorem whileO_inv {A B S : Type _} {step : A → S → Option ((A ⊕ B) × S)} (I : A → S → Prop) (μ : A → S → Nat) (P : B → S → Prop)
    (hs : ∀ a s, I a s → (∃ a' s', step a s = some (.inl a', s') ∧ I a' s' ∧ μ a' s' < μ a s) ∨ (∃ b s', step a s = some (.inr b, s') ∧ P b s')) :
    ∀ a s, I a s → ∃ b s', whileO step a s = some (b, s') ∧ P b s' := by
  intro a s h
  generalize hm : μ a s = m
  induction m using Nat.strongRecOn generalizing a s with
  | _ m ih =>
    rcases hs a s h with ⟨a', s', e, h', hlt⟩ | ⟨b, s', e, h'⟩
    · obtain ⟨b, t, e2, hp⟩ := ih _ (by rw [← hm]; exact hlt) a' s' h' rfl
      exact ⟨b, t, by rw [whileO_next e]; exact e2, hp⟩
    · exact ⟨b, s', whileO_last e, h'⟩
/-- the state of a made world: the places of the old heap's end and of the two bounds; cells so far, slots so far, what is known of each cell -/
abbrev XCell : Type := (Nat × vp_A) ⊕ ((Nat × List Value) ⊕ (Nat × List Value))
abbrev XS : Type := (Nat × Nat × Nat × (Nat → Option Nat)) × Nat × Nat × (Nat → Option XCell)
abbrev xz (σ : XS) : Nat := σ.1.1
abbrev xn (σ : XS) : Nat := σ.2.1
abbrev xh (σ : XS) : Nat → Option XCell := σ.2.2.2
abbrev cI (t n : Nat) (f : Nat → Int32) : XCell := .inl (t, n, .inl f)
abbrev cL (n : Nat) (f : Nat → Int64) : XCell := .inl (1, n, .inr (.inl f))
abbrev cR (t n : Nat) (f : Nat → Option Nat) : XCell := .inl (t, n, .inr (.inr (.inr (.inr f))))
abbrev cO (k : Nat) (fs : List Value) : XCell := .inr (.inl (k, fs))
abbrev cF (k : Nat) (vs : List Value) : XCell := .inr (.inr (k, vs))
def hup (h : Nat → Option XCell) (a : Nat) (c : XCell) : Nat → Option XCell := fun b => if b = a then some c else h b
def xup (σ : XS) (a : Nat) (c : XCell) : XS := (σ.1, σ.2.1, σ.2.2.1, hup σ.2.2.2 a c)
/-- a new cell of n slots -/
def xnew (σ : XS) (n : Nat) (c : XCell) : XS := (σ.1, σ.2.1 + 1, σ.2.2.1 + n, hup σ.2.2.2 σ.2.1 c)
