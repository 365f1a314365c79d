/-! the law's world: the fixed cells in another order; long[] -/
set_option maxRecDepth 100000
theorem x_R.perm {D : va_G} {s : State} {N0 : Nat} {X X' : x_X} {h : x_H} {H : Heap} (hR : x_R D s N0 X h H) (hp : X'.Perm X) : x_R D s N0 X' h H := by
  obtain ⟨r1, r2, r3⟩ := hR
  have hnd : (X.map (fun q => q.1)).Nodup := by
    refine List.pairwise_iff_getElem.mpr fun i j hi hj hij hpq => ?_
    rw [List.length_map] at hi hj
    have e1 : X[i]? = some X[i] := List.getElem?_eq_getElem hi
    have e2 : X[j]? = some X[j] := List.getElem?_eq_getElem hj
    have := r2 i j _ _ e1 e2 (by simpa using hpq)
    omega
  have hnd' : (X'.map (fun q => q.1)).Nodup := (hp.map _).nodup_iff.mpr hnd
  refine ⟨fun k q hk => ?_, fun i j p q hi hj hpq => ?_, r3⟩
  · obtain ⟨i, hi⟩ := List.mem_iff_getElem?.mp (hp.mem_iff.mp (List.mem_of_getElem? hk))
    exact r1 i q hi
  · have e1 : (X'.map (fun q => q.1))[i]? = some p.1 := by rw [List.getElem?_map, hi]; rfl
    have e2 : (X'.map (fun q => q.1))[j]? = some p.1 := by rw [List.getElem?_map, hj, hpq]; rfl
    exact (List.getElem?_inj (by rw [List.length_map]; exact (List.getElem?_eq_some_iff.mp hi).1) hnd').mp (e1.trans e2.symm)
theorem x_swap {D : va_G} {s : State} {N0 : Nat} {A B : x_X} {h : x_H} {H : Heap} (hR : x_R D s N0 (A ++ B) h H) : x_R D s N0 (B ++ A) h H := hR.perm List.perm_append_comm
/-- the law's long[1] -/
def XO (ao : Nat) (o : Nat → Int64) : x_X := [(ao, .inl (.long, (1, .inr (.inl o))))]
section XL
variable {p : Program} {l : Launch} {e : Env} {R : Room} {s : State} {m : MethodId} {args : Array Value} {below : List Frame} {meth : Method} {c : Code} {H : Heap} {locs : List Loc} {cells slots : Nat} {Q : State → Prop}
variable {cc : ByteArray} {nL : Nat} {ret : Option FieldType} {own : String} {D : va_G} {N0 : Nat} {gp : Nat → Nat} {X X' : x_X} {h : x_H} {pc : Nat} {ls : Array Slot} {rest : List Value} {a : Nat}
theorem x_lald (C : x_C p s m args meth c cc nL ret own D N0 gp) {n : Nat} {f : Nat → Int64} (hrd : x_rd D s a (.inl (.long, (n, .inr (.inl f)))) H) {i : Int32} (hi : vp_in i n) (hdg : decode cc pc = .ok (.laload, 1))
    (kk : W p l e R s m args below meth c H locs cells slots Q (F0 m (pc + 1) ls (.long (f i.toNatClampNeg) :: rest))) : W p l e R s m args below meth c H locs cells slots Q (F0 m pc ls (.int i :: .ref a :: rest)) := by
  obtain ⟨⟨hx, hb, -, hown, hts⟩, -, -, hG, -⟩ := C
  obtain ⟨cell, h1, h2, h3, h4, -, h6⟩ := hrd
  exact W.lald (v := .long (f i.toNatClampNeg)) hx hb h1 h2 h3 (fun q => hi (q.imp id (fun z => Nat.le_trans h4 z))) (h6 _ (Nat.not_le.mp fun z => hi (Or.inr z))) rfl rfl hdg kk
theorem x_lastX (C : x_C p s m args meth c cc nL ret own D N0 gp) (hR : x_R D s N0 X h H) (hS : va_S (x_A N0) s.heap H locs) (k : Nat) {n : Nat} {f : Nat → Int64} (he : X[k]? = some (a, .inl (.long, (n, .inr (.inl f))))) {i : Int32} {x : Int64} (hi : vp_in i n) (hX : X.set k (a, .inl (.long, (n, .inr (.inl (vp_updL f i.toNatClampNeg x))))) = X') (hdg : decode cc pc = .ok (.lastore, 1))
    (kk : ∀ (H1 : Heap) (locs1 : List Loc), x_R D s N0 X' h H1 → va_S (x_A N0) s.heap H1 locs1 → W p l e R s m args below meth c H1 locs1 cells slots Q (F0 m (pc + 1) ls rest)) : W p l e R s m args below meth c H locs cells slots Q (F0 m pc ls (.long x :: .int i :: .ref a :: rest)) := by
  obtain ⟨⟨hx, hb, -, hown, hts⟩, -, -, hG, -⟩ := C
  obtain ⟨⟨cA, hA, h1⟩, hN, -⟩ := hR.1 k _ he
  refine W.last hx hb h1 (hA.1 _ _) (fun q => by cases q) (by rw [x_cell, arrV_size]; exact hi) rfl rfl hdg fun H1 e1 z oq => ?_
  refine kk H1 _ (hR.putX k he hX ⟨cA, hA, ?_⟩ oq) (hS.put z oq hN)
  rw [e1]
  rw [vp_cell_l, vp_cell_l, arrV_store]
  congr 2
  funext q
  by_cases hq : q = i.toNatClampNeg
  · subst hq
    simp [updV, vp_updL]
  · simp [updV, vp_updL, hq]
theorem x_newJ (C : x_C p s m args meth c cc nL ret own D N0 gp) (hR : x_R D s N0 X h H) (hS : va_S (x_A N0) s.heap H locs) (harr : Cond.arrayClass .long ∈ lw_all) {n : Int32} (hn : ¬ n < 0) (hbytes : n.toNatClampNeg * 8 ≤ 536870912) (hcells : cells + 1 ≤ R.cells) (hslots : slots + n.toNatClampNeg ≤ R.slots) (hdg : decode cc pc = .ok (.newarray .long, 2))
    (kk : ∀ (q : Nat) (H1 : Heap), h q = none → (∀ t : Nat, t ≠ 1 → x_R D s N0 X (x_hs h q t (.inl (.long, (n.toNatClampNeg, .inr (.inl (fun _ => 0)))))) H1) → va_S (x_A N0) s.heap H1 locs → W p l e R s m args below meth c H1 locs (cells + 1) (slots + n.toNatClampNeg) Q (F0 m (pc + 2) ls (.ref q :: rest))) : W p l e R s m args below meth c H locs cells slots Q (F0 m pc ls (.int n :: rest)) := by
  obtain ⟨⟨hx, hb, -, hown, hts⟩, -, -, hG, hN⟩ := C
  refine va_newaK hx hb (atype := .long) (hts _ harr) rfl hdg rfl hn rfl (by show n.toNatClampNeg * 8 ≤ _; omega) hcells hslots rfl fun H1 cA e1 z1 o1 hAr hNm => ?_
  refine kk H.size H1 hR.fresh (fun t ht => hR.newH (Nat.le_trans hN hS.1) ht ⟨cA, ⟨hAr, hNm⟩, e1⟩ o1) ⟨Nat.le_trans hS.1 (by omega), fun x h1 h2 => (o1 x (Nat.lt_of_lt_of_le h1 hS.1)).trans (hS.2.1 x h1 h2), hS.2.2⟩
end XL
section XL2
variable {p : Program} {l : Launch} {e : Env} {R : Room} {s : State} {m : MethodId} {args : Array Value} {below : List Frame} {meth : Method} {c : Code} {H : Heap} {locs : List Loc} {cells slots : Nat} {Q : State → Prop}
variable {cc : ByteArray} {pc : Nat} {ls : Array Slot} {rest : List Value}
theorem x_lcmp (hexec : p.tables.exec = Jvm.exec) (hb : c.code = cc) {x y : Int64} (hdg : decode cc pc = .ok (.lcmp, 1)) (k : W p l e R s m args below meth c H locs cells slots Q (F0 m (pc + 1) ls (.int (if y < x then 1 else if x = y then 0 else -1) :: rest))) : W p l e R s m args below meth c H locs cells slots Q (F0 m pc ls (.long y :: .long x :: rest)) := by
  intro T hT X
  obtain ⟨t, a, b⟩ := k T hT X
  refine ⟨t, ?_, b⟩
  jvm_step X.here [X.here.top, hexec, hb, hdg]
  by_cases h1 : y < x
  · rw [if_pos h1] at a ⊢
    exact a
  · by_cases h2 : x = y
    · rw [if_neg h1, if_pos h2] at a ⊢
      exact a
    · rw [if_neg h1, if_neg h2] at a ⊢
      exact a
end XL2
