/-! the constructors' own rows: arrays of whole numbers, chars, booleans; cells that become fixed -/
set_option maxRecDepth 100000
def x_dr (h : x_H) (l : List Nat) : x_H := fun q => if q ∈ l then none else h q
theorem x_promote {D : va_G} {s : State} {N0 : Nat} {X : x_X} {h : x_H} {H : Heap} (hR : x_R D s N0 X h H) (cs : x_X) (hc : ∀ q ∈ cs, ∃ t : Nat, t ≠ 1 ∧ h q.1 = some (t, q.2)) (hn : (cs.map (fun q => q.1)).Nodup) : x_R D s N0 (cs ++ X) (x_dr h (cs.map (fun q => q.1))) H := by
  obtain ⟨r1, r2, r3⟩ := id hR
  have key : ∀ (k : Nat) (q : Nat × x_E), (cs ++ X)[k]? = some q → (k < cs.length ∧ cs[k]? = some q ∧ q ∈ cs) ∨ (cs.length ≤ k ∧ X[k - cs.length]? = some q) := by
    intro k q hk
    by_cases hl : k < cs.length
    · rw [List.getElem?_append_left hl] at hk
      exact Or.inl ⟨hl, hk, List.mem_of_getElem? hk⟩
    · rw [List.getElem?_append_right (Nat.not_lt.mp hl)] at hk
      exact Or.inr ⟨Nat.not_lt.mp hl, hk⟩
  refine ⟨fun k q hk => ?_, fun i j p q hi hj hpq => ?_, fun a t e ha => ?_⟩
  · rcases key k q hk with ⟨-, -, hm⟩ | ⟨-, h2⟩
    · obtain ⟨t, ht, hq⟩ := hc q hm
      obtain ⟨hN, hat⟩ := hR.atH hq ht
      exact ⟨hat, hN, by unfold x_dr; rw [if_pos (List.mem_map_of_mem hm)]⟩
    · have h3 := r1 _ q h2
      exact ⟨h3.1, h3.2.1, by unfold x_dr; split; · rfl
                              · exact h3.2.2⟩
  · rcases key i p hi with ⟨h1, h2, hm⟩ | ⟨h1, h2⟩ <;> rcases key j q hj with ⟨h3, h4, hm'⟩ | ⟨h3, h4⟩
    · have e1 : (cs.map (fun q => q.1))[i]? = some p.1 := by rw [List.getElem?_map, h2]; rfl
      have e2 : (cs.map (fun q => q.1))[j]? = some p.1 := by rw [List.getElem?_map, h4, hpq]; rfl
      exact (List.getElem?_inj (by rw [List.length_map]; exact h1) hn).mp (e1.trans e2.symm)
    · obtain ⟨t, ht, hq⟩ := hc p hm
      have := (r1 _ q h4).2.2
      rw [← hpq, hq] at this
      cases this
    · obtain ⟨t, ht, hq⟩ := hc q hm'
      have := (r1 _ p h2).2.2
      rw [hpq, hq] at this
      cases this
    · have := r2 _ _ p q h2 h4 hpq
      omega
  · unfold x_dr at ha
    split at ha
    · cases ha
    · exact r3 a t e ha
section XN
variable {p : Program} {l : Launch} {e : Env} {R : Room} {s : State} {m : MethodId} {args : Array Value} {below : List Frame} {meth : Method} {c : Code} {H : Heap} {locs : List Loc} {cells slots : Nat} {Q : State → Prop}
variable {cc : ByteArray} {nL : Nat} {ret : Option FieldType} {own : String} {D : va_G} {N0 : Nat} {gp : Nat → Nat} {X X' : x_X} {h : x_H} {pc : Nat} {ls : Array Slot} {rest : List Value} {a : Nat}
theorem x_newI (C : x_C p s m args meth c cc nL ret own D N0 gp) (hR : x_R D s N0 X h H) (hS : va_S (x_A N0) s.heap H locs) (harr : Cond.arrayClass .int ∈ lw_all) {n : Int32} (hn : ¬ n < 0) (hbytes : n.toNatClampNeg * 4 ≤ 536870912) (hcells : cells + 1 ≤ R.cells) (hslots : slots + n.toNatClampNeg ≤ R.slots) (hdg : decode cc pc = .ok (.newarray .int, 2))
    (kk : ∀ (q : Nat) (H1 : Heap), h q = none → (∀ t : Nat, t ≠ 1 → x_R D s N0 X (x_hs h q t (.inl (.int, (n.toNatClampNeg, .inl (fun _ => 0))))) H1) → va_S (x_A N0) s.heap H1 locs → W p l e R s m args below meth c H1 locs (cells + 1) (slots + n.toNatClampNeg) Q (F0 m (pc + 2) ls (.ref q :: rest))) : W p l e R s m args below meth c H locs cells slots Q (F0 m pc ls (.int n :: rest)) := by
  obtain ⟨⟨hx, hb, -, hown, hts⟩, -, -, hG, hN⟩ := C
  refine va_newaK hx hb (atype := .int) (hts _ harr) rfl hdg rfl hn rfl (by show n.toNatClampNeg * 4 ≤ _; omega) hcells hslots rfl fun H1 cA e1 z1 o1 hAr hNm => ?_
  refine kk H.size H1 hR.fresh (fun t ht => hR.newH (Nat.le_trans hN hS.1) ht ⟨cA, ⟨hAr, hNm⟩, e1⟩ o1) ⟨Nat.le_trans hS.1 (by omega), fun x h1 h2 => (o1 x (Nat.lt_of_lt_of_le h1 hS.1)).trans (hS.2.1 x h1 h2), hS.2.2⟩
theorem x_newC (C : x_C p s m args meth c cc nL ret own D N0 gp) (hR : x_R D s N0 X h H) (hS : va_S (x_A N0) s.heap H locs) (harr : Cond.arrayClass .char ∈ lw_all) {n : Int32} (hn : ¬ n < 0) (hbytes : n.toNatClampNeg * 2 ≤ 536870912) (hcells : cells + 1 ≤ R.cells) (hslots : slots + n.toNatClampNeg ≤ R.slots) (hdg : decode cc pc = .ok (.newarray .char, 2))
    (kk : ∀ (q : Nat) (H1 : Heap), h q = none → (∀ t : Nat, t ≠ 1 → x_R D s N0 X (x_hs h q t (.inl (.char, (n.toNatClampNeg, .inl (fun _ => 0))))) H1) → va_S (x_A N0) s.heap H1 locs → W p l e R s m args below meth c H1 locs (cells + 1) (slots + n.toNatClampNeg) Q (F0 m (pc + 2) ls (.ref q :: rest))) : W p l e R s m args below meth c H locs cells slots Q (F0 m pc ls (.int n :: rest)) := by
  obtain ⟨⟨hx, hb, -, hown, hts⟩, -, -, hG, hN⟩ := C
  refine va_newaK hx hb (atype := .char) (hts _ harr) rfl hdg rfl hn rfl (by show n.toNatClampNeg * 2 ≤ _; omega) hcells hslots rfl fun H1 cA e1 z1 o1 hAr hNm => ?_
  refine kk H.size H1 hR.fresh (fun t ht => hR.newH (Nat.le_trans hN hS.1) ht ⟨cA, ⟨hAr, hNm⟩, e1⟩ o1) ⟨Nat.le_trans hS.1 (by omega), fun x h1 h2 => (o1 x (Nat.lt_of_lt_of_le h1 hS.1)).trans (hS.2.1 x h1 h2), hS.2.2⟩
theorem x_newZ (C : x_C p s m args meth c cc nL ret own D N0 gp) (hR : x_R D s N0 X h H) (hS : va_S (x_A N0) s.heap H locs) (harr : Cond.arrayClass .boolean ∈ lw_all) {n : Int32} (hn : ¬ n < 0) (hbytes : n.toNatClampNeg * 1 ≤ 536870912) (hcells : cells + 1 ≤ R.cells) (hslots : slots + n.toNatClampNeg ≤ R.slots) (hdg : decode cc pc = .ok (.newarray .boolean, 2))
    (kk : ∀ (q : Nat) (H1 : Heap), h q = none → (∀ t : Nat, t ≠ 1 → x_R D s N0 X (x_hs h q t (.inl (.boolean, (n.toNatClampNeg, .inl (fun _ => 0))))) H1) → va_S (x_A N0) s.heap H1 locs → W p l e R s m args below meth c H1 locs (cells + 1) (slots + n.toNatClampNeg) Q (F0 m (pc + 2) ls (.ref q :: rest))) : W p l e R s m args below meth c H locs cells slots Q (F0 m pc ls (.int n :: rest)) := by
  obtain ⟨⟨hx, hb, -, hown, hts⟩, -, -, hG, hN⟩ := C
  refine va_newaK hx hb (atype := .boolean) (hts _ harr) rfl hdg rfl hn rfl (by show n.toNatClampNeg * 1 ≤ _; omega) hcells hslots rfl fun H1 cA e1 z1 o1 hAr hNm => ?_
  refine kk H.size H1 hR.fresh (fun t ht => hR.newH (Nat.le_trans hN hS.1) ht ⟨cA, ⟨hAr, hNm⟩, e1⟩ o1) ⟨Nat.le_trans hS.1 (by omega), fun x h1 h2 => (o1 x (Nat.lt_of_lt_of_le h1 hS.1)).trans (hS.2.1 x h1 h2), hS.2.2⟩
end XN
