/-! a throw of an ArithmeticException: its words, its row (printed by tools/thr.py) -/
set_option maxRecDepth 100000
def xthA : List Cond := vx_atS "java/lang/Math" 113 "java/lang/ArithmeticException" ["java/lang/RuntimeException", "java/lang/Exception"]
def xthB : List Cond := [.castable "java/lang/ArithmeticException" "java/lang/ArithmeticException", .declares ⟨"java/lang/RuntimeException", "<init>", "(Ljava/lang/String;)V"⟩, .declares ⟨"java/lang/Exception", "<init>", "(Ljava/lang/String;)V"⟩, .declares ⟨"java/lang/Throwable", "<init>", "(Ljava/lang/String;)V"⟩]
theorem xth_good : ∀ w ∈ xthA.filter goodWord, w ∈ lw_all := lw_in (xthA.filter goodWord) [148, 628, 637, 640, 643, 645, 629, 630, 163, 164, 631, 636, 641, 661, 618, 662, 620, 663, 622, 632, 634, 624, 1052, 1053, 660, 624, 1043, 1044, 1045, 1046, 1046, 1047, 1048, 1049, 1049, 1050, 1051, 1052, 1112, 1042, 1064, 639, 1056, 1057, 1059, 1055, 627, 626, 1054] (by decide +kernel) (by decide +kernel)
theorem xth_bad : xthA.all (fun w => goodWord w || xthB.contains w) = true := by decide +kernel
theorem xth_ot : ∀ w ∈ Cond.classLink "java/lang/Math" 109 "java/lang/ArithmeticException" :: Cond.initialized "java/lang/ArithmeticException" :: xthA, vx_ot w = true := by decide +kernel
theorem q155 : (Jvm.Cond.initialized "java/lang/ArithmeticException") ∈ lw_all := lw_g (lw_at lw_m1 25 rfl) rfl
theorem q1110 : (Jvm.Cond.classLink "java/lang/Math" (109 : Nat) "java/lang/ArithmeticException") ∈ lw_all := lw_g (lw_at lw_m5 20 rfl) rfl
theorem xth_words {z : Nat} {adr : Nat → Option Nat} {lam : Nat → ClassId} {s : State} {args : Array Value} {H : Heap} (hts : ∀ w ∈ lw_all, w.before args s = true) (hz : zAll z adr lam s H) : ∀ w ∈ xthA, w.before args s = true := by
  intro w hw
  by_cases hg : goodWord w = true
  · exact hts w (xth_good w (List.mem_filter.mpr ⟨hw, hg⟩))
  · have h := List.all_eq_true.mp xth_bad w hw
    have h2 : w ∈ xthB := by
      have h3 : (goodWord w || xthB.contains w) = true := h
      simpa [hg] using h3
    simp only [xthB, List.mem_cons, List.not_mem_nil, or_false] at h2
    rcases h2 with e | e | e | e
    · rw [e]; exact va_Nw.use rfl (hz.1.2.2.1 ("java/lang/ArithmeticException", "java/lang/ArithmeticException") (List.mem_of_getElem? (i := 4) rfl))
    · rw [e]; exact va_Nw.use rfl (hz.1.2.2.2.1 ⟨"java/lang/RuntimeException", "<init>", "(Ljava/lang/String;)V"⟩ (List.mem_of_getElem? (i := 14) rfl))
    · rw [e]; exact va_Nw.use rfl (hz.1.2.2.2.1 ⟨"java/lang/Exception", "<init>", "(Ljava/lang/String;)V"⟩ (List.mem_of_getElem? (i := 1) rfl))
    · rw [e]; exact va_Nw.use rfl (hz.1.2.2.2.1 ⟨"java/lang/Throwable", "<init>", "(Ljava/lang/String;)V"⟩ (List.mem_of_getElem? (i := 3) rfl))
def xthr {β : Type} (σ : XS) (k : Nat → XS → Option β) : Option β := if σ.2.1 + 1 ≤ σ.1.2.1 ∧ σ.2.2.1 + 6 ≤ σ.1.2.2.1 then k σ.2.1 (σ.1, σ.2.1 + 1, σ.2.2.1 + 6, σ.2.2.2) else none
section ThrS
variable {ρ : Type} {X : XC} {cc : ByteArray} {F Lo : Nat} {pc : Nat} {L : List (Nat × Value)} {rest : List Value} {σ : XS} {enc : ρ → Option Value}
theorem x_throwS (O : XOk X cc "java/lang/Math" F Lo) (hfl : (xL X).stackTraces = false) (hout : ∀ x ∈ (xC X).exceptionTable.toList, False) (hz : zAll (xG X).1.1 (xG X).1.2.2.2 (xG X).2.2.2.1 (xS X) (xS X).heap) (hroom : 6 ≤ F ∧ 100 ≤ Lo) (hrest : (rest.map fun v => v.category).sum ≤ 8)
    (d0 : decode cc pc = .ok (.new 109, 3)) (d3 : decode cc (pc + 3) = .ok (.dup, 1)) (d4 : decode cc (pc + 4) = .ok (.ldc 116, 2)) (d6 : decode cc (pc + 6) = .ok (.invokespecial 113, 3)) (d9 : decode cc (pc + 9) = .ok (.athrow, 1)) :
    Sim X xI (retCT X enc 11 xI) pc L rest σ (xthr σ fun q s => some (.inr q, s)) := by
  intro v t hr hC
  unfold xthr at hr
  split at hr
  · rename_i hc
    cases hr
    intro H locs ls hR hS hl
    rw [show xQQ X = _ from hC]
    refine W.withSlots fun hsl => ?_
    have hm := O.more hR hS hsl hc
    obtain ⟨b, hb1, hb2⟩ := zt_4 hz
    have hUS : vx_Zq Bundle.tN "UNASSIGNED_STACK" Bundle.steD (fun q => (xG X).1.1 ≤ q) (xS X) (xS X).heap := ⟨(by
      have h := zs_3 hz
      cases e : (xG X).1.2.2.2 3 with
      | none => rw [e] at h; exact Or.inl h
      | some t => rw [e] at h; exact Or.inr ⟨t, h⟩), hz.1.2.2.2.2.2.2.2.2.2.2.2.1⟩
    have hNS : vx_Zq Bundle.tN "SUPPRESSED_SENTINEL" Bundle.listD (fun q => (xG X).1.1 ≤ q) (xS X) (xS X).heap := ⟨(by
      have h := zs_4 hz
      cases e : (xG X).1.2.2.2 4 with
      | none => rw [e] at h; exact Or.inl h
      | some t => rw [e] at h; exact Or.inr ⟨t, h⟩), hz.1.2.2.2.2.2.2.2.2.2.2.2.2⟩
    have hF := O.hF
    refine vx_throwS (names := ["java/lang/RuntimeException", "java/lang/Exception"]) (ic := 113) (sa := b) O.hx O.hb hfl O.hown (by decide) (by decide) (O.hts _ q1110) (O.hts _ q155) hb2 (xth_words O.hts hz) xth_ot hUS hNS hS hl.1 d0 d3 d4 d6 d9 (fun x hx => (hout x hx).elim) (Nat.lt_of_lt_of_le (by show 2 + 3 < 6; omega) (Nat.le_trans hroom.1 hF.1)) (by show _ + (13 * 3 + 43) ≤ _; omega) hm.1 hm.2 O.hlocks ?_ hS.2.2 hm.1 hm.2
    intro t hA h1 h2 h3 h4 h5
    have e1 : H.size = σ.2.1 := hR.1
    have e2 : xslots H + xD X ≤ σ.2.2.1 := hR.2.1
    have e3 := hR.2.2.1
    clear hm hsl hF hroom hrest
    refine ⟨e1, ⟨_, rfl, rfl⟩, ⟨⟨?_, ?_, e3, ?_, ?_, fun a c ha => ?_⟩, ?_⟩, Nat.le_trans hS.1 h1, fun q g1 g2 => (h2 q (Nat.lt_of_lt_of_le g1 hS.1)).trans (hS.2.1 q g1 g2)⟩
    · show t.heap.size = σ.2.1 + 1
      omega
    · show xslots t.heap + 0 ≤ σ.2.2.1 + 6
      omega
    · show σ.2.1 + 1 ≤ (xG X).1.2.1
      rw [← e3]; exact hc.1
    · show σ.2.2.1 + 6 ≤ (xG X).1.2.2.1
      rw [← e3]; exact hc.2
    · have hx := hR.2.2.2.2.2 a c ha
      exact hx.kept (h2 a hx.lt)
    · show xslots t.heap + (xslots (xS X).heap + xD X - xslots (xS X).heap) ≤ σ.2.2.1 + 6
      omega
  · cases hr
end ThrS
