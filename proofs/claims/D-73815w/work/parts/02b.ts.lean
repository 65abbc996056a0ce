/-! THE TWIN's STATE: its whole numbers and its arrays, by the places of their fields -/
abbrev TS : Type := (Nat → Int32) × (Nat → Nat → Int32) × (Nat → Nat → Int64)
def tsI (s : TS) (k : Nat) (x : Int32) : TS := (upd s.1 k x, s.2.1, s.2.2)
def tsA (s : TS) (f j : Nat) (x : Int32) : TS := (s.1, va_up s.2.1 f (upd (s.2.1 f) j x), s.2.2)
def tsL (s : TS) (f j : Nat) (x : Int64) : TS := (s.1, s.2.1, va_up s.2.2 f (vp_updL (s.2.2 f) j x))
abbrev eI : Int32 → Option Value := fun v => some (.int v)
abbrev eL : Int64 → Option Value := fun v => some (.long v)
abbrev eU : Unit → Option Value := fun _ => none
/-- a method that needs no state -/
def stat {α S : Type} (o : Option (α × Unit)) (s : S) : Option (α × S) := match o with
  | none => none
  | some q => some (q.1, s)
theorem stat_some {α S : Type} {a : α} {u : Unit} {s : S} : stat (some (a, u)) s = some (a, s) := rfl
