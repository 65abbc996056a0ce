/-! the clone of an array of bytes -/
def xcln {β : Type} (σ : XS) (a : Nat) (kk : Nat → XS → Option β) : Option β := match σ.2.2.2 a with
  | some (.inl (u, n, .inl f)) => if u = 2 ∧ (∀ i, i < n → fits .byte (.int (f i)) = true) ∧ σ.2.1 + 1 ≤ σ.1.2.1 ∧ σ.2.2.1 + n ≤ σ.1.2.2.1 then kk σ.2.1 (xnew σ n (cI 2 n f)) else none
  | _ => none
def xaB {β : Type} (σ : XS) (a : Nat) (k : Option β) : Option β := xarr σ a 2 fun _ => k
section Cln
variable {ρ : Type} {X : XC} {cc : ByteArray} {own : String} {F Lo : Nat} {C : ρ → XS → Prop} {pc : Nat} {L : List (Nat × Value)} {rest : List Value} {σ : XS} {rem : Option (ρ × XS)} {a : Nat}
theorem x_castB (O : XOk X cc own F Lo) {index : Nat} (hlink : Cond.classLink own index "[B" ∈ lw_all) (hd : decode cc pc = .ok (.checkcast index, 3)) (kk : Sim X xI C (pc + 3) L (.ref a :: rest) σ rem) : Sim X xI C pc L (.ref a :: rest) σ (xaB σ a rem) := by
  intro v t hr hc
  obtain ⟨A, h1, h2⟩ := xarr_ex hr
  intro H locs ls hR hS hl
  have hnm : (xS X).vm.findClass "[B" = some ((xG X).2.2.1 2) := (O.hK.2 2 _ rfl).2
  exact va_castA O.hx O.hb O.hown (O.hts _ hlink) (hR.arr h1) 0 rfl hnm hd (kk v t h2 hc H locs ls hR hS hl)
theorem x_cloneB (O : XOk X cc own F Lo) {index : Nat} {k : Nat → XS → Option (ρ × XS)} (hz : zAll (xG X).1.1 (xG X).1.2.2.2 (xG X).2.2.2.1 (xS X) (xS X).heap) (hlink : Cond.methodLink own index ⟨"[B", "clone", "()Ljava/lang/Object;"⟩ ∈ lw_all) (hroom : 1 ≤ F ∧ 30 ≤ Lo) (hrest : (rest.map fun v => v.category).sum ≤ 8) (hd : decode cc pc = .ok (.invokevirtual index, 3)) (kk : ∀ q s, Sim X xI C (pc + 3) L (.ref q :: rest) s (k q s)) : Sim X xI C pc L (.ref a :: rest) σ (xcln σ a k) := by
  intro v t hr hc
  unfold xcln at hr
  split at hr
  · rename_i u n f he
    split at hr
    · rename_i h
      obtain ⟨rfl, hfit, h1⟩ := h
      have kk1 := kk _ _ v t hr hc
      intro H locs ls hR hS hl
      refine W.withSlots fun hsl => ?_
      have hm := O.more hR hS hsl h1
      have hnm : (xS X).vm.findClass "[B" = some ((xG X).2.2.1 2) := (O.hK.2 2 _ rfl).2
      have hF := O.hF
      obtain ⟨c0, t0, f1, f2, f3⟩ := Cond.castable_spec (va_Nw.use (A := xArgs X) rfl (hz.1.2.2.1 ("[B", "java/lang/Cloneable") (List.mem_of_getElem? (i := 0) rfl)))
      cases hnm.symm.trans f1
      have hcell : H[a]? = some (vp_cell ((xG X).2.2.1 2) (n, .inl f)) := hR.at he
      have hsz : (vp_cell ((xG X).2.2.1 2) (n, .inl f)).slots.size = n := arrV_size _ _ _
      have hcellE : ({ cls := (vp_cell ((xG X).2.2.1 2) (n, .inl f)).cls, slots := (vp_cell ((xG X).2.2.1 2) (n, .inl f)).slots } : Cell) = vp_cell ((xG X).2.2.1 2) (n, .inl f) := rfl
      have hw := kk1.push (cells := H.size - (xS X).heap.size + 1) (slots := xslots H - xslots (xS X).heap + n) (x := vp_cell ((xG X).2.2.1 2) (n, .inl f)) hR hS hl rfl hsz h1 (show (H.push _)[H.size]? = some (vp_cell _ _) by rw [Array.getElem?_push_size])
      intro T hT Y
      have hcellT : T.heap[a]? = some (vp_cell ((xG X).2.2.1 2) (n, .inl f)) := by rw [hT]; exact hcell
      obtain ⟨-, kA, hkA, comp, hkind⟩ := State.isArrayOf_alike Y.warmed.alike ((O.hK.2 2 _ rfl).1 0 (fun _ => .null))
      obtain ⟨-, kS, hkS, compS, hkindS⟩ := (O.hK.2 2 _ rfl).1 0 (fun _ => .null)
      obtain ⟨vm', X', st⟩ := Y.cloneArray O.hx O.hown (O.hts _ hlink) (O.hts _ q448) (O.hts _ q449) (O.hts _ q450) (O.hts _ q451) (a := a) (cell := vp_cell ((xG X).2.2.1 2) (n, .inl f)) hcellT (fun k h => by cases h) (fun h => by cases h) hnm f2 f3
        (fun i v hv => by
          have hk' : T.vm.classes[(vp_cell ((xG X).2.2.1 2) (n, .inl f)).cls]? = some kA := hkA
          have hf : fits .byte v = true := by
            by_cases hi : i < n
            · have e : (vp_cell ((xG X).2.2.1 2) (n, .inl f)).slots[i]? = some (.int (f i)) := arrV_read _ _ hi
              rw [e] at hv
              cases hv
              exact hfit i hi
            · rw [Array.getElem?_eq_none (by rw [hsz]; omega)] at hv
              cases hv
          simpa [State.fitsSlot, State.slotType?, hk', hkind] using hf)
        (g := F0 (xM X) pc ls (.ref a :: rest)) rfl (by rw [hl.1]) rfl (by rw [O.hb]; exact hd) (Nat.le_trans hroom.1 hF.1) (by show 2 * 0 + _ + 14 ≤ _; omega) hm.1 (by rw [hsz]; exact hm.2) (hloader := Vm.clonesLoader_of_array hkS hkindS)
      rw [hcellE, hsz] at X'
      obtain ⟨t9, b1, b2⟩ := hw ((T.setVm vm').pushCell (vp_cell ((xG X).2.2.1 2) (n, .inl f))) (by rw [← hT]; rfl) X'
      refine ⟨t9, st t9 ?_, b2⟩
      rw [hcellE, hT, hR.1]
      exact b1
    · cases hr
  · cases hr
end Cln
