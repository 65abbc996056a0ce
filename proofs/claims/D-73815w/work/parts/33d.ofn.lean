/-! a contract of a constructor, out of its walk -/
section RetN
variable {S ρ : Type} {X : XC} {cc : ByteArray} {own : String} {F Lo : Nat} {E : S → XS} {pc : Nat} {L : List (Nat × Value)} {rest : List Value} {σ : S} {enc : ρ → Option Value} {v : ρ}
/-- a contract out of the walk of the body -/
theorem xMet_ofN {l : Launch} {G : XG} {y : MethodName} {fr lo mL : Nat} {ret : Option FieldType} {av : List Value} {σ : S} {body : Option (ρ × S)} {v : ρ} {t : S} (hnm : y.name = "<init>") (hy : plainFor y = true) (hsl : (lg_sl av).length ≤ mL)
    (walk : ∀ X : XC, xL X = l → xG X = G → XOk X cc y.cls fr lo → (xMeth X).sig.returnType = ret → (xC X).maxLocals = mL → (xMeth X).name = "<init>" → Sim X E (retC X enc E) 0 (lv_args 0 av) [] σ body) (hbody : body = some (v, t)) :
    xMet l y (ws_ y cc mL ret) fr lo G (E σ) av (enc v) (E t) := by
  refine va_MetF (cc := cc) (maxL := mL) (ret := ret) hy rfl ?_
  intro p e s m args below meth c s₁ B hml hv
  obtain ⟨rfl, hK, hZ, hst, hR, hz⟩ := hv
  have hts := atoms_spec (ws := ws_ y cc mL ret) B.pre
  have hts : ∀ w ∈ lw_all, w.before _ s = true := fun w h => hts w (List.mem_cons_of_mem _ h)
  have hl := lv_entry av (n := mL) hsl
  rw [lg_entry_eq]
  let X : XC := (p, l, e, (headSpec (ws_ y cc mL ret) ({ frames := fr, cells := G.1.2.1 - (E σ).2.1, slots := G.1.2.2.1 - (E σ).2.2.1, locals := lo } : Room)).room, s, m, av.toArray, below, meth, c, MQ below (xQ G (E σ).2.2.1 (enc v) (E t)) av.toArray s (G.1.2.1 - (E σ).2.1) (G.1.2.2.1 - (E σ).2.2.1) (fun q => G.1.1 ≤ q), G, (E σ).2.2.1 - xslots s.heap)
  have hsum : xslots s.heap + ((E σ).2.2.1 - xslots s.heap) = (E σ).2.2.1 := by have h9 : xslots s.heap + 0 ≤ (E σ).2.2.1 := hR.2.1; omega
  have O : XOk X cc y.cls fr lo := ⟨B.exec, B.bytes, findClass_of_methodNamed B.named, hts, B.notSynchronized, hK, hZ, hst, hz, by show s.heap.size ≤ G.1.2.1; rw [hR.1]; exact hR.2.2.2.1, by show xslots s.heap + ((E σ).2.2.1 - xslots s.heap) ≤ G.1.2.2.1; rw [hsum]; exact hR.2.2.2.2.1, by show G.1.2.1 - (E σ).2.1 = G.1.2.1 - s.heap.size; rw [hR.1], by show G.1.2.2.1 - (E σ).2.2.1 = G.1.2.2.1 - (xslots s.heap + ((E σ).2.2.1 - xslots s.heap)); rw [hsum], Nat.le_refl _, Nat.le_refl _⟩
  have h := walk X rfl rfl O B.returns hml (by show meth.name = _; rw [(name_of_methodNamed B.named B.method).1]; exact hnm) v t hbody (by show MQ _ _ _ _ _ _ _ = MQ below (xQ G (xslots s.heap + ((E σ).2.2.1 - xslots s.heap)) (enc v) (E t)) av.toArray s _ _ _; rw [hsum]; rfl) s.heap [] _ (hR.with (by show xslots s.heap + ((E σ).2.2.1 - xslots s.heap) ≤ _; omega)) va_S.rf (by show lv_has _ c.maxLocals _; rw [hml]; exact hl)
  have h2 : s.heap.size - s.heap.size = 0 := Nat.sub_self _
  have h3 : xslots s.heap - xslots s.heap = 0 := Nat.sub_self _
  have h4 : W p l e (headSpec (ws_ y cc mL ret) ({ frames := fr, cells := G.1.2.1 - (E σ).2.1, slots := G.1.2.2.1 - (E σ).2.2.1, locals := lo } : Room)).room s m av.toArray below meth c s.heap [] (s.heap.size - s.heap.size) (xslots s.heap - xslots s.heap) (MQ below (xQ G (E σ).2.2.1 (enc v) (E t)) av.toArray s (G.1.2.1 - (E σ).2.1) (G.1.2.2.1 - (E σ).2.2.1) (fun q => G.1.1 ≤ q)) _ := h
  rw [h2, h3] at h4
  exact h4
end RetN
