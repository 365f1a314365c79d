/-! THE FRAME, third part: methods that throw, and their catching; String constants by ldc_w -/
set_option maxRecDepth 100000
/-- new cells alone -/
theorem x_R.kept {D : va_G} {s : State} {N0 : Nat} {X : x_X} {h : x_H} {H H1 : Heap} (hR : x_R D s N0 X h H) (o : ∀ q : Nat, q < H.size → H1[q]? = H[q]?) : x_R D s N0 X h H1 := by
  obtain ⟨r1, r2, r3⟩ := id hR
  exact ⟨fun k q hk => ⟨(r1 k q hk).1.kept (o q.1 (r1 k q hk).1.lt), (r1 k q hk).2⟩, r2, fun b t e hb => (r3 b t e hb).elim (fun z => Or.inl ⟨z.1, z.2.1, z.2.2.kept (o b (hR.rdH hb).lt)⟩) (fun z => Or.inr ⟨z.1, z.2.1, z.2.2.kept (o b (hR.rdH hb).lt)⟩)⟩
theorem x_words {p : Program} {s : State} {m : MethodId} {args : Array Value} {meth : Method} {c : Code} {cc : ByteArray} {nL : Nat} {ret : Option FieldType} {own : String} {D : va_G} {N0 : Nat} {gp : Nat → Nat} (C : x_C p s m args meth c cc nL ret own D N0 gp) {L : List Cond} (ps : List Nat) (hp : L = ps.filterMap (fun i => lw_tbl[i]?)) (hg : L.all (fun w => goodWord w || (x_isN w && w.onTables)) = true) : ∀ w ∈ L, w.before args s = true := by
  intro w hw
  have h1 := List.all_eq_true.mp hg w hw
  rw [hp] at hw
  obtain ⟨i, -, hi⟩ := List.mem_filterMap.mp hw
  have hm : w ∈ lw_tbl := List.mem_of_getElem? hi
  rw [Bool.or_eq_true] at h1
  rcases h1 with h1 | h1
  · exact C.1.2.2.2.2 w (lw_g hm h1)
  · rw [Bool.and_eq_true] at h1
    exact va_Nw.use h1.2 (x_nest C hm h1.1)
theorem x_startX {l : Launch} {y : MethodName} {cc : ByteArray} {nL : Nat} {ret : Option FieldType} {own : String} {rm : Room} {D : va_G} {N0 : Nat} {gp : Nat → Nat} {X : x_X} {h : x_H} {As : List Value} {lv : List (Nat × Value)} {Q : Option Value → x_X → x_H → Prop} {QX : String → x_X → x_H → Prop} {mc ms : Nat}
    (hy : plainName y.cls = true) (ho : y.cls = own) (hn : (lg_sl As).length ≤ nL) (hlv : lv_args 0 As = lv)
    (body : ∀ (p : Program) (e : Env) (s : State) (m : MethodId) (below : List Frame) (meth : Method) (c : Code), x_C p s m As.toArray meth c cc nL ret own D N0 gp → (∀ x ∈ c.exceptionTable.toList, False) → x_R D s N0 X h s.heap → ∀ ls : Array Slot, lv_has ls nL lv → W p l e rm s m As.toArray below meth c s.heap [] 0 0 (vx_MQ below (x_Qc D N0 Q) (x_XC D N0 QX) As.toArray s mc ms (x_A N0)) (F0 m 0 ls [])) :
    vx_Met l y (ws_ y cc nL ret) rm (x_Pc D N0 gp X h As) (x_Qc D N0 Q) (x_XC D N0 QX) mc ms (x_A N0) := by
  subst ho
  subst hlv
  refine vx_ofW (cc := cc) (maxL := nL) (ret := ret) hy rfl ?_
  intro p e s m args below meth c s₁ B hml hxt hv
  obtain ⟨rfl, hG, hN, hR⟩ := hv
  have hts := atoms_spec (ws := ws_ y cc nL ret) B.pre
  have hts : ∀ w ∈ lw_all, w.before _ s = true := fun w h => hts w (List.mem_cons_of_mem _ h)
  have hown : s.vm.findClass y.cls = some m.cls := findClass_of_methodNamed B.named
  rw [lg_entry_eq]
  exact body p e s m below meth c ⟨⟨B.exec, B.bytes, hml, hown, hts⟩, B.returns, B.notSynchronized, hG, hN⟩ hxt hR _ (lv_entry As hn)
/-- .. of a method with handlers, which throws nothing -/
theorem x_startW {l : Launch} {y : MethodName} {cc : ByteArray} {nL : Nat} {ret : Option FieldType} {own : String} {rm : Room} {D : va_G} {N0 : Nat} {gp : Nat → Nat} {X : x_X} {h : x_H} {As : List Value} {lv : List (Nat × Value)} {Q : Option Value → x_X → x_H → Prop} {mc ms : Nat} {hh : List (Nat × Nat × Nat × Nat)}
    (hy : plainName y.cls = true) (ho : y.cls = own) (hn : (lg_sl As).length ≤ nL) (hlv : lv_args 0 As = lv)
    (body : ∀ (p : Program) (e : Env) (s : State) (m : MethodId) (below : List Frame) (meth : Method) (c : Code), x_C p s m As.toArray meth c cc nL ret own D N0 gp → c.exceptionTable.toList = tableOf hh → x_R D s N0 X h s.heap → ∀ ls : Array Slot, lv_has ls nL lv → W p l e rm s m As.toArray below meth c s.heap [] 0 0 (MQ below (x_Qc D N0 Q) As.toArray s mc ms (x_A N0)) (F0 m 0 ls [])) :
    Met l y (wsW_ y cc nL ret hh) rm (x_Pc D N0 gp X h As) (x_Qc D N0 Q) mc ms (x_A N0) := by
  subst ho
  subst hlv
  refine va_MetW (cc := cc) (maxL := nL) (ret := ret) (hh := hh) hy rfl ?_
  intro p e s m args below meth c s₁ B hml hv
  obtain ⟨rfl, hG, hN, hR⟩ := hv
  have hts0 := atoms_spec (ws := wsW_ y cc nL ret hh) B.pre
  have hts : ∀ w ∈ lw_all, w.before _ s = true := fun w h => hts0 w (List.mem_cons_of_mem _ h)
  have hown : s.vm.findClass y.cls = some m.cls := findClass_of_methodNamed B.named
  rw [lg_entry_eq]
  exact body p e s m below meth c ⟨⟨B.exec, B.bytes, hml, hown, hts⟩, B.returns, B.notSynchronized, hG, hN⟩ (vx_table (x := y) B (hts0 _ List.mem_cons_self)) hR _ (lv_entry As hn)
section XT
variable {p : Program} {l : Launch} {e : Env} {R : Room} {s : State} {m : MethodId} {args : Array Value} {below : List Frame} {meth : Method} {c : Code} {H : Heap} {locs : List Loc} {cells slots : Nat} {Q : State → Prop}
variable {cc : ByteArray} {nL : Nat} {ret : Option FieldType} {own : String} {D : va_G} {N0 : Nat} {gp : Nat → Nat} {X X' : x_X} {h : x_H} {pc : Nat} {ls : Array Slot} {rest : List Value} {a : Nat}
theorem x_ldcSW (C : x_C p s m args meth c cc nL ret own D N0 gp) {index k : Nat} {tx : String} (hq : (own, index, tx, k) ∈ x_strs) (hdg : decode cc pc = .ok (.ldc_w index, 3))
    (kk : W p l e R s m args below meth c H locs cells slots Q (F0 m (pc + 3) ls (.ref (gp k) :: rest))) : W p l e R s m args below meth c H locs cells slots Q (F0 m pc ls rest) := by
  obtain ⟨⟨hx, hb, hml, hown, hts⟩, -, -, hG, -⟩ := C
  intro T hT XX
  obtain ⟨t, a1, b1⟩ := kk T hT XX
  exact ⟨t, XX.ldcStringW hx hown (text := tx) (a := gp k) (hG.2.2.2.1 _ hq).1 (hG.2.2.2.1 _ hq).2 (g := F0 m pc ls rest) rfl (by rw [hb]; exact hdg) t a1, b1⟩
/-- a call has come back, or has thrown -/
theorem x_callX {Qv : Option Value → x_X → x_H → Prop} {QX : String → x_X → x_H → Prop} {mc ms : Nat} {av : Array Value} {st0 : List Value} (hr : vx_Run p l e R s m args below meth c H locs cells slots mc ms (F0 m pc ls st0) rest (x_Qc D N0 Qv av) (x_XC D N0 QX) (x_A N0)) (hS : va_S (x_A N0) s.heap H locs)
    (kx : ∀ (E : String) (ce : Cell) (q9 : Nat) (X1 : x_X) (h1 : x_H) (H1 : Heap) (locs1 : List Loc), QX E X1 h1 → x_R D s N0 X1 h1 H1 → va_S (x_A N0) s.heap H1 locs1 → H1[q9]? = some ce → ce.vm = .none → s.vm.findClass E = some ce.cls → vx_W p l e R s m args below meth c H1 locs1 (cells + mc) (slots + ms) Q (F0 m pc ls rest) q9)
    (kk : ∀ (v : Option Value) (X1 : x_X) (h1 : x_H) (H1 : Heap) (locs1 : List Loc), Qv v X1 h1 → x_R D s N0 X1 h1 H1 → va_S (x_A N0) s.heap H1 locs1 → W p l e R s m args below meth c H1 locs1 (cells + mc) (slots + ms) Q (F0 m (pc + 3) ls (v.toList ++ rest))) : W p l e R s m args below meth c H locs cells slots Q (F0 m pc ls st0) := by
  intro T hT XX
  rcases hr T hT XX with ⟨v, st₀, t, T', L, h0, X', hL, e1, e2, ⟨⟨v', X1, h1, hv, hq, hR⟩, hF⟩, st⟩ | ⟨q, st₀, t, T', L, E, ce, h0, X', hL, e1, e2, ⟨⟨X1, h1, hq, hR⟩, hF⟩, hce, hcv, hcl, st⟩
  · cases hv
    have hal : s.vm.Alike t.vm := by rw [← e2]; exact X'.warmed.alike
    obtain ⟨k1, k2, k3⟩ := vx_keep h0 e1 hS (fun q _ z => z) (fun q z => z) hL hF
    obtain ⟨t2, a1, b1⟩ := kk v X1 h1 T'.heap (locs ++ L) hq (by rw [e1]; exact hR.moved hal.symm) k3 T' rfl X'
    exact ⟨t2, st t2 a1, b1⟩
  · have hal : s.vm.Alike t.vm := by rw [← e2]; exact X'.warmed.alike
    obtain ⟨k1, k2, k3⟩ := vx_keep h0 e1 hS (fun q _ z => z) (fun q z => z) hL hF
    obtain ⟨t2, a1, b1⟩ := kx E ce q X1 h1 T'.heap (locs ++ L) hq (by rw [e1]; exact hR.moved hal.symm) k3 (by rw [e1]; exact hce) hcv hcl T' rfl X'
    exact ⟨t2, st.trans a1, b1⟩
/-- it goes on to the caller -/
theorem x_outX {Qv : Option Value → x_X → x_H → Prop} {QX : String → x_X → x_H → Prop} {mc ms : Nat} {E : String} {ce : Cell} {q : Nat} (C : x_C p s m args meth c cc nL ret own D N0 gp) (hxt : ∀ x ∈ c.exceptionTable.toList, False) (hR : x_R D s N0 X h H) (hS : va_S (x_A N0) s.heap H locs) (hq : QX E X h) (hcell : H[q]? = some ce) (hv : ce.vm = .none) (hcl : s.vm.findClass E = some ce.cls) (hc : cells ≤ mc) (hs : slots ≤ ms) :
    vx_W p l e R s m args below meth c H locs cells slots (vx_MQ below (x_Qc D N0 Qv) (x_XC D N0 QX) args s mc ms (x_A N0)) (F0 m pc ls rest) q :=
  vx_out (fun x hx => (hxt x hx).elim) C.2.2.1 hcell hv hcl (fun t ht hW => ⟨⟨X, h, hq, by rw [ht]; exact hR.moved hW⟩, hS.F ht⟩) hS.2.2 hc hs
/-- .. past this pc's rows -/
theorem x_outC {Qv : Option Value → x_X → x_H → Prop} {QX : String → x_X → x_H → Prop} {mc ms : Nat} {E : String} {ce : Cell} {q : Nat} (C : x_C p s m args meth c cc nL ret own D N0 gp) (hout : ∀ x ∈ c.exceptionTable.toList, covers x pc = false) (hR : x_R D s N0 X h H) (hS : va_S (x_A N0) s.heap H locs) (hq : QX E X h) (hcell : H[q]? = some ce) (hv : ce.vm = .none) (hcl : s.vm.findClass E = some ce.cls) (hc : cells ≤ mc) (hs : slots ≤ ms) :
    vx_W p l e R s m args below meth c H locs cells slots (vx_MQ below (x_Qc D N0 Qv) (x_XC D N0 QX) args s mc ms (x_A N0)) (F0 m pc ls rest) q :=
  vx_out hout C.2.2.1 hcell hv hcl (fun t ht hW => ⟨⟨X, h, hq, by rw [ht]; exact hR.moved hW⟩, hS.F ht⟩) hS.2.2 hc hs
/-- throw new E() -/
theorem x_throw {Qv : Option Value → x_X → x_H → Prop} {QX : String → x_X → x_H → Prop} {mc ms : Nat} {cls : String} {ik ic : Nat} (C : x_C p s m args meth c cc nL ret own D N0 gp) (hlt : l.stackTraces = false) (hout : ∀ x ∈ c.exceptionTable.toList, covers x (pc + 7) = false) (hR : x_R D s N0 X h H) (hS : va_S (x_A N0) s.heap H locs)
    (ps : List Nat) (hp : vx_at0 own ic cls ["java/lang/RuntimeException", "java/lang/Exception"] = ps.filterMap (fun i => lw_tbl[i]?)) (hg : (vx_at0 own ic cls ["java/lang/RuntimeException", "java/lang/Exception"]).all (fun w => goodWord w || (x_isN w && w.onTables)) = true)
    (ho : (Cond.classLink own ik cls :: Cond.initialized cls :: vx_at0 own ic cls ["java/lang/RuntimeException", "java/lang/Exception"]).all vx_ot = true) (hfit : Bundle.fit cls = true) (hk : Cond.classLink own ik cls ∈ lw_all) (hini : Cond.initialized cls ∈ lw_all) (hsize : ls.size = nL)
    (d0 : decode cc pc = .ok (.new ik, 3)) (d3 : decode cc (pc + 3) = .ok (.dup, 1)) (d4 : decode cc (pc + 4) = .ok (.invokespecial ic, 3)) (d7 : decode cc (pc + 7) = .ok (.athrow, 1))
    (hRframes : 5 < R.frames) (hRlocals : (rest.map fun v => v.category).sum + 81 ≤ R.locals) (hRcells : cells + 1 ≤ R.cells) (hRslots : slots + 6 ≤ R.slots) (hq : QX cls X h) (hc : cells + 1 ≤ mc) (hs : slots + 6 ≤ ms) :
    W p l e R s m args below meth c H locs cells slots (vx_MQ below (x_Qc D N0 Qv) (x_XC D N0 QX) args s mc ms (x_A N0)) (F0 m pc ls rest) := by
  have hw := x_words C ps hp hg
  obtain ⟨⟨hx, hb, hml, hown, hts⟩, -, hlk, hG, -⟩ := C
  refine vx_throw0 (names := ["java/lang/RuntimeException", "java/lang/Exception"]) hx hb hlt hown hfit (by decide +kernel) (hts _ hk) (hts _ hini) hw (List.all_eq_true.mp ho) hG.2.2.1.2.2.2.1 hG.2.2.1.2.2.2.2.1 hS (hsize.trans hml.symm) d0 d3 d4 d7 hout hRframes (by show _ + (13 * (2 + 1) + 42) ≤ _; omega) hRcells hRslots hlk (fun t hW hz o => ⟨⟨X, h, hq, (hR.kept o).moved hW⟩, ⟨Nat.le_trans hS.1 hz, fun q h1 h2 => (o q (Nat.lt_of_lt_of_le h1 hS.1)).trans (hS.2.1 q h1 h2)⟩⟩) hS.2.2 hc hs
end XT
theorem x_at_IAE : vx_at0 "PageServer" 62 "java/lang/IllegalArgumentException" ["java/lang/RuntimeException", "java/lang/Exception"] = [105, 532, 541, 545, 548, 550, 533, 534, 121, 122, 535, 540, 546, 563, 522, 564, 524, 565, 526, 536, 538, 528, 619, 620, 621, 555, 513, 555, 556, 557, 558, 515, 558, 559, 560, 533, 517, 618, 610, 611, 612, 543, 613, 614, 615, 616, 531, 530, 617].filterMap (fun i => lw_tbl[i]?) := by decide +kernel
theorem x_ag_IAE : (vx_at0 "PageServer" 62 "java/lang/IllegalArgumentException" ["java/lang/RuntimeException", "java/lang/Exception"]).all (fun w => goodWord w || (x_isN w && w.onTables)) = true := by decide +kernel
theorem x_ao_IAE : (Cond.classLink "PageServer" 60 "java/lang/IllegalArgumentException" :: Cond.initialized "java/lang/IllegalArgumentException" :: vx_at0 "PageServer" 62 "java/lang/IllegalArgumentException" ["java/lang/RuntimeException", "java/lang/Exception"]).all vx_ot = true := by decide +kernel
theorem x_at_ISE : vx_at0 "PageServer" 166 "java/lang/IllegalStateException" ["java/lang/RuntimeException", "java/lang/Exception"] = [105, 532, 541, 545, 548, 550, 533, 534, 121, 122, 535, 540, 546, 563, 522, 564, 524, 565, 526, 536, 538, 528, 552, 553, 554, 555, 513, 555, 556, 557, 558, 515, 558, 559, 560, 533, 517, 551, 511, 512, 519, 520, 521, 523, 525, 527, 531, 530, 529].filterMap (fun i => lw_tbl[i]?) := by decide +kernel
theorem x_ag_ISE : (vx_at0 "PageServer" 166 "java/lang/IllegalStateException" ["java/lang/RuntimeException", "java/lang/Exception"]).all (fun w => goodWord w || (x_isN w && w.onTables)) = true := by decide +kernel
theorem x_ao_ISE : (Cond.classLink "PageServer" 164 "java/lang/IllegalStateException" :: Cond.initialized "java/lang/IllegalStateException" :: vx_at0 "PageServer" 166 "java/lang/IllegalStateException" ["java/lang/RuntimeException", "java/lang/Exception"]).all vx_ot = true := by decide +kernel
theorem x_at_NSE : vx_at0 "PageServer" 65 "java/util/NoSuchElementException" ["java/lang/RuntimeException", "java/lang/Exception"] = [105, 532, 541, 545, 548, 550, 533, 534, 121, 122, 535, 540, 546, 563, 522, 564, 524, 565, 526, 536, 538, 528, 1137, 1138, 1139, 555, 513, 555, 556, 557, 558, 515, 558, 559, 560, 533, 517, 1136, 1128, 1129, 1130, 544, 1131, 1132, 1133, 1134, 531, 530, 1135].filterMap (fun i => lw_tbl[i]?) := by decide +kernel
theorem x_ag_NSE : (vx_at0 "PageServer" 65 "java/util/NoSuchElementException" ["java/lang/RuntimeException", "java/lang/Exception"]).all (fun w => goodWord w || (x_isN w && w.onTables)) = true := by decide +kernel
theorem x_ao_NSE : (Cond.classLink "PageServer" 63 "java/util/NoSuchElementException" :: Cond.initialized "java/util/NoSuchElementException" :: vx_at0 "PageServer" 65 "java/util/NoSuchElementException" ["java/lang/RuntimeException", "java/lang/Exception"]).all vx_ot = true := by decide +kernel
section XT2
variable {p : Program} {l : Launch} {e : Env} {R : Room} {s : State} {m : MethodId} {args : Array Value} {below : List Frame} {meth : Method} {c : Code} {H : Heap} {locs : List Loc} {cells slots : Nat} {Q : State → Prop}
variable {cc : ByteArray} {nL : Nat} {ret : Option FieldType} {own : String} {D : va_G} {N0 : Nat} {gp : Nat → Nat} {X X' : x_X} {h : x_H} {pc : Nat} {ls : Array Slot} {rest : List Value} {a : Nat}
theorem x_runVX (C : x_C p s m args meth c cc nL ret own D N0 gp) (hR : x_R D s N0 X h H) (hS : va_S (x_A N0) s.heap H locs) {y : MethodName} {bytes : ByteArray} {maxL mc ms n index : Nat} {rt : Option FieldType} {rm : Room} {Qv : Option Value → x_X → x_H → Prop} {QX : String → x_X → x_H → Prop} {Cn : String} {b : Nat} {As st0 : List Value}
    (hM : vx_Met l y (ws_ y bytes maxL rt) rm (x_Pc D N0 gp X h (.ref b :: As)) (x_Qc D N0 Qv) (x_XC D N0 QX) mc ms (x_A N0)) (hg : GoodIn lw_all (wsV own index Cn y (ws_ y bytes maxL rt))) (hrc : rm.cells = mc) (hrs : rm.slots = ms) (hd : y.cls = Cn ∧ y.cls ≠ "java/lang/invoke/MethodHandle" ∧ y.cls ≠ "java/lang/invoke/VarHandle" ∧ (parseMethodDescriptor y.desc).map (fun d => d.parameters.length) = some n) (hrm : rm.frames + 1 ≤ R.frames ∧ 8 + (maxL + 11) + rm.locals ≤ R.locals)
    (hv : ∃ cell : Cell, H[b]? = some cell ∧ cell.vm.isStatics = false ∧ s.vm.findClass Cn = some cell.cls) (hn : As.length = n) (hl : ls.size = nL) (hst : st0 = As.reverse ++ .ref b :: rest) (hw : (rest.map fun v => v.category).sum ≤ 8) (hdg : decode cc pc = .ok (.invokevirtual index, 3)) (hf : cells + mc ≤ R.cells ∧ slots + ms ≤ R.slots) :
    vx_Run p l e R s m args below meth c H locs cells slots mc ms (F0 m pc ls st0) rest (x_Qc D N0 Qv (Value.ref b :: As).toArray) (x_XC D N0 QX) (x_A N0) :=
  vx_runV C.1 hM (cwV n C.1.2.2.2.2 hg rfl hrc hrs hd hrm) ⟨x_blind, hv, x_pre C hR hS _⟩ rfl hn hl hst (lv_room hw) hdg hf
theorem x_runSX (C : x_C p s m args meth c cc nL ret own D N0 gp) (hR : x_R D s N0 X h H) (hS : va_S (x_A N0) s.heap H locs) {y : MethodName} {bytes : ByteArray} {maxL mc ms n index : Nat} {rt : Option FieldType} {rm : Room} {Qv : Option Value → x_X → x_H → Prop} {QX : String → x_X → x_H → Prop} {As st0 : List Value}
    (hM : vx_Met l y (ws_ y bytes maxL rt) rm (x_Pc D N0 gp X h As) (x_Qc D N0 Qv) (x_XC D N0 QX) mc ms (x_A N0)) (hg : GoodIn lw_all (va_wsS own index y (ws_ y bytes maxL rt))) (hrc : rm.cells = mc) (hrs : rm.slots = ms) (hd : y.cls ≠ "java/lang/invoke/MethodHandle" ∧ y.cls ≠ "java/lang/invoke/VarHandle" ∧ (parseMethodDescriptor y.desc).map (fun d => d.parameters.length) = some n) (hrm : rm.frames + 1 ≤ R.frames ∧ 8 + (maxL + 11) + rm.locals ≤ R.locals)
    (hn : As.length = n) (hl : ls.size = nL) (hst : st0 = As.reverse ++ rest) (hw : (rest.map fun v => v.category).sum ≤ 8) (hdg : decode cc pc = .ok (.invokestatic index, 3)) (hf : cells + mc ≤ R.cells ∧ slots + ms ≤ R.slots) :
    vx_Run p l e R s m args below meth c H locs cells slots mc ms (F0 m pc ls st0) rest (x_Qc D N0 Qv As.toArray) (x_XC D N0 QX) (x_A N0) :=
  vx_runS C.1 hM (va_cwS n C.1.2.2.2.2 hg rfl hrc hrs hd hrm) ⟨x_blind, x_pre C hR hS _⟩ rfl hn hl hst (lv_room hw) hdg hf
/-- a method with handlers is called -/
theorem x_runVW (C : x_C p s m args meth c cc nL ret own D N0 gp) (hR : x_R D s N0 X h H) (hS : va_S (x_A N0) s.heap H locs) {y : MethodName} {bytes : ByteArray} {maxL mc ms n index : Nat} {rt : Option FieldType} {rm : Room} {hh : List (Nat × Nat × Nat × Nat)} {Qv : Option Value → x_X → x_H → Prop} {Cn : String} {b : Nat} {As st0 : List Value}
    (hM : Met l y (wsW_ y bytes maxL rt hh) rm (x_Pc D N0 gp X h (.ref b :: As)) (x_Qc D N0 Qv) mc ms (x_A N0)) (hg : GoodIn lw_all (wsV own index Cn y (wsW_ y bytes maxL rt hh))) (hrc : rm.cells = mc) (hrs : rm.slots = ms) (hd : y.cls = Cn ∧ y.cls ≠ "java/lang/invoke/MethodHandle" ∧ y.cls ≠ "java/lang/invoke/VarHandle" ∧ (parseMethodDescriptor y.desc).map (fun d => d.parameters.length) = some n) (hrm : rm.frames + 1 ≤ R.frames ∧ 8 + (maxL + 11) + rm.locals ≤ R.locals)
    (hv : ∃ cell : Cell, H[b]? = some cell ∧ cell.vm.isStatics = false ∧ s.vm.findClass Cn = some cell.cls) (hn : As.length = n) (hl : ls.size = nL) (hst : st0 = As.reverse ++ .ref b :: rest) (hw : (rest.map fun v => v.category).sum ≤ 8) (hdg : decode cc pc = .ok (.invokevirtual index, 3)) (hf : cells + mc ≤ R.cells ∧ slots + ms ≤ R.slots) :
    va_Run p l e R s m args below meth c H locs cells slots mc ms (F0 m pc ls st0) rest (x_Qc D N0 Qv (Value.ref b :: As).toArray) (x_A N0) :=
  vx_runVW C.1 hM (vx_cwVW n C.1.2.2.2.2 hg rfl hrc hrs hd hrm) ⟨x_blind, hv, x_pre C hR hS _⟩ rfl hn hl hst (lv_room hw) hdg hf
theorem x_runSW (C : x_C p s m args meth c cc nL ret own D N0 gp) (hR : x_R D s N0 X h H) (hS : va_S (x_A N0) s.heap H locs) {y : MethodName} {bytes : ByteArray} {maxL mc ms n index : Nat} {rt : Option FieldType} {rm : Room} {hh : List (Nat × Nat × Nat × Nat)} {Qv : Option Value → x_X → x_H → Prop} {As st0 : List Value}
    (hM : Met l y (wsW_ y bytes maxL rt hh) rm (x_Pc D N0 gp X h As) (x_Qc D N0 Qv) mc ms (x_A N0)) (hg : GoodIn lw_all (va_wsS own index y (wsW_ y bytes maxL rt hh))) (hrc : rm.cells = mc) (hrs : rm.slots = ms) (hd : y.cls ≠ "java/lang/invoke/MethodHandle" ∧ y.cls ≠ "java/lang/invoke/VarHandle" ∧ (parseMethodDescriptor y.desc).map (fun d => d.parameters.length) = some n) (hrm : rm.frames + 1 ≤ R.frames ∧ 8 + (maxL + 11) + rm.locals ≤ R.locals)
    (hn : As.length = n) (hl : ls.size = nL) (hst : st0 = As.reverse ++ rest) (hw : (rest.map fun v => v.category).sum ≤ 8) (hdg : decode cc pc = .ok (.invokestatic index, 3)) (hf : cells + mc ≤ R.cells ∧ slots + ms ≤ R.slots) :
    va_Run p l e R s m args below meth c H locs cells slots mc ms (F0 m pc ls st0) rest (x_Qc D N0 Qv As.toArray) (x_A N0) :=
  vx_runSW C.1 hM (vx_cwSW n C.1.2.2.2.2 hg rfl hrc hrs hd hrm) ⟨x_blind, x_pre C hR hS _⟩ rfl hn hl hst (lv_room hw) hdg hf
theorem x_callXi {Qv : Int32 → x_X → x_H → Prop} {QX : String → x_X → x_H → Prop} {mc ms : Nat} {av : Array Value} {st0 : List Value} (hr : vx_Run p l e R s m args below meth c H locs cells slots mc ms (F0 m pc ls st0) rest (x_Qc D N0 (x_Vi Qv) av) (x_XC D N0 QX) (x_A N0)) (hS : va_S (x_A N0) s.heap H locs)
    (kx : ∀ (E : String) (ce : Cell) (q9 : Nat) (X1 : x_X) (h1 : x_H) (H1 : Heap) (locs1 : List Loc), QX E X1 h1 → x_R D s N0 X1 h1 H1 → va_S (x_A N0) s.heap H1 locs1 → H1[q9]? = some ce → ce.vm = .none → s.vm.findClass E = some ce.cls → vx_W p l e R s m args below meth c H1 locs1 (cells + mc) (slots + ms) Q (F0 m pc ls rest) q9)
    (kk : ∀ (r : Int32) (X1 : x_X) (h1 : x_H) (H1 : Heap) (locs1 : List Loc), Qv r X1 h1 → x_R D s N0 X1 h1 H1 → va_S (x_A N0) s.heap H1 locs1 → W p l e R s m args below meth c H1 locs1 (cells + mc) (slots + ms) Q (F0 m (pc + 3) ls (.int r :: rest))) : W p l e R s m args below meth c H locs cells slots Q (F0 m pc ls st0) :=
  x_callX hr hS kx fun v X1 h1 H1 locs1 hq hR hS => by
    obtain ⟨r, rfl, hq⟩ := hq
    exact kk r X1 h1 H1 locs1 hq hR hS
theorem x_callXv {Qv : x_X → x_H → Prop} {QX : String → x_X → x_H → Prop} {mc ms : Nat} {av : Array Value} {st0 : List Value} (hr : vx_Run p l e R s m args below meth c H locs cells slots mc ms (F0 m pc ls st0) rest (x_Qc D N0 (x_Vv Qv) av) (x_XC D N0 QX) (x_A N0)) (hS : va_S (x_A N0) s.heap H locs)
    (kx : ∀ (E : String) (ce : Cell) (q9 : Nat) (X1 : x_X) (h1 : x_H) (H1 : Heap) (locs1 : List Loc), QX E X1 h1 → x_R D s N0 X1 h1 H1 → va_S (x_A N0) s.heap H1 locs1 → H1[q9]? = some ce → ce.vm = .none → s.vm.findClass E = some ce.cls → vx_W p l e R s m args below meth c H1 locs1 (cells + mc) (slots + ms) Q (F0 m pc ls rest) q9)
    (kk : ∀ (X1 : x_X) (h1 : x_H) (H1 : Heap) (locs1 : List Loc), Qv X1 h1 → x_R D s N0 X1 h1 H1 → va_S (x_A N0) s.heap H1 locs1 → W p l e R s m args below meth c H1 locs1 (cells + mc) (slots + ms) Q (F0 m (pc + 3) ls rest)) : W p l e R s m args below meth c H locs cells slots Q (F0 m pc ls st0) :=
  x_callX hr hS kx fun v X1 h1 H1 locs1 hq hR hS => by
    obtain ⟨rfl, hq⟩ := hq
    exact kk X1 h1 H1 locs1 hq hR hS
/-- caught by the first row of a table of two -/
theorem x_catch1 {E name : String} {ce : Cell} {q : Nat} (C : x_C p s m args meth c cc nL ret own D N0 gp) (x : ExceptionTableEntry) (suf : List ExceptionTableEntry) (hsplit : c.exceptionTable.toList = x :: suf) (hx : covers x pc = true) (h0 : x.catchType ≠ 0)
    (hlink : Cond.classLink own x.catchType name ∈ lw_all) (hcast : Cond.castable E name ∈ lw_tbl) (hcell : H[q]? = some ce) (hv : ce.vm = .none) (hcl : s.vm.findClass E = some ce.cls)
    (kk : W p l e R s m args below meth c H locs cells slots Q (F0 m x.handlerPc ls [.ref q])) : vx_W p l e R s m args below meth c H locs cells slots Q (F0 m pc ls rest) q := by
  have hn := x_nest C hcast rfl
  obtain ⟨⟨hx', hb, hml, hown, hts⟩, -, -, hG, -⟩ := C
  exact vx_catch hown [] x suf hsplit (fun z hz => nomatch hz) hx h0 (hts _ hlink) (va_Nw.use (A := args) rfl hn) hcell hv hcl kk
theorem x_catch2 {E name nm1 : String} {ce : Cell} {q : Nat} (C : x_C p s m args meth c cc nL ret own D N0 gp) (z x : ExceptionTableEntry) (suf : List ExceptionTableEntry) (hsplit : c.exceptionTable.toList = z :: x :: suf) (hz0 : z.catchType ≠ 0) (hz : Cond.classLink own z.catchType nm1 ∈ lw_all) (hnc : va_Nc E nm1 s) (hx : covers x pc = true) (h0 : x.catchType ≠ 0)
    (hlink : Cond.classLink own x.catchType name ∈ lw_all) (hcast : Cond.castable E name ∈ lw_tbl) (hcell : H[q]? = some ce) (hv : ce.vm = .none) (hcl : s.vm.findClass E = some ce.cls)
    (kk : W p l e R s m args below meth c H locs cells slots Q (F0 m x.handlerPc ls [.ref q])) : vx_W p l e R s m args below meth c H locs cells slots Q (F0 m pc ls rest) q := by
  have hn := x_nest C hcast rfl
  obtain ⟨⟨hx', hb, hml, hown, hts⟩, -, -, hG, -⟩ := C
  exact vx_catch hown [z] x suf hsplit (fun w hw => by
    rw [List.mem_singleton] at hw
    subst hw
    exact Or.inr ⟨hz0, nm1, hts _ hz, hnc⟩) hx h0 (hts _ hlink) (va_Nw.use (A := args) rfl hn) hcell hv hcl kk
end XT2
theorem x_bud1 {k mc MC n : Nat} (hk : k + mc ≤ MC) (h : n ≤ mc) : k + n ≤ MC := by omega
