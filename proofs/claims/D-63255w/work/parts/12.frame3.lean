/-! THE FRAME, third part: calls of every kind, natives, statics, constants, throws -/
set_option maxRecDepth 100000
theorem lw_U {own : String} {idx : Nat} {C : String} {y : MethodName} {b : ByteArray} {L : Nat} {r : Option FieldType} (h1 : Cond.methodLink own idx y ∈ lw_all) (h2 : Cond.sameMethod y.cls y.cls y.name y.desc ∈ lw_all) (h3 : Cond.selects C y y ∈ lw_all) (h4 : Cond.instanceMethod y ∈ lw_all) (h5 : Cond.initialized y.cls ∈ lw_all) (h6 : Cond.code y b L r ∈ lw_all) : GoodIn lw_all (va_wsU own idx C y.cls y y (ws_ y b L r)) := by
  refine lw_app ?_ (lw_meth h6)
  intro w hw
  simp only [List.mem_cons, List.not_mem_nil, or_false] at hw
  rcases hw with e | e | e | e | e
  · rw [e]; exact h1
  · rw [e]; exact h2
  · rw [e]; exact h3
  · rw [e]; exact h4
  · rw [e]; exact h5
theorem lw_O {own : String} {idx : Nat} {C owner : String} {x y : MethodName} {b : ByteArray} {L : Nat} {r : Option FieldType} (h1 : Cond.methodLink own idx x ∈ lw_all) (h2 : Cond.sameMethod x.cls owner x.name x.desc ∈ lw_all) (h3 : Cond.instanceMethod ⟨owner, x.name, x.desc⟩ ∈ lw_all) (h4 : Cond.selects C x y ∈ lw_all) (h5 : Cond.instanceMethod y ∈ lw_all) (h6 : Cond.initialized y.cls ∈ lw_all) (h7 : Cond.code y b L r ∈ lw_all) : GoodIn lw_all (va_wsO own idx C owner x y (ws_ y b L r)) := by
  refine lw_app ?_ (lw_meth h7)
  intro w hw
  simp only [List.mem_cons, List.not_mem_nil, or_false] at hw
  rcases hw with e | e | e | e | e | e
  · rw [e]; exact h1
  · rw [e]; exact h2
  · rw [e]; exact h3
  · rw [e]; exact h4
  · rw [e]; exact h5
  · rw [e]; exact h6
theorem lw_SU {own : String} {idx : Nat} {y : MethodName} {b : ByteArray} {L : Nat} {r : Option FieldType} (h1 : Cond.methodLink own idx y ∈ lw_all) (h2 : Cond.sameMethod y.cls y.cls y.name y.desc ∈ lw_all) (h3 : Cond.superclass own y.cls ∈ lw_all) (h4 : Cond.instanceMethod y ∈ lw_all) (h5 : Cond.initialized y.cls ∈ lw_all) (h6 : Cond.code y b L r ∈ lw_all) : GoodIn lw_all (va_wsSU own idx y (ws_ y b L r)) := by
  refine lw_app ?_ (lw_meth h6)
  intro w hw
  simp only [List.mem_cons, List.not_mem_nil, or_false] at hw
  rcases hw with e | e | e | e | e
  · rw [e]; exact h1
  · rw [e]; exact h2
  · rw [e]; exact h3
  · rw [e]; exact h4
  · rw [e]; exact h5
theorem x_startI {l : Launch} {y : MethodName} {cc : ByteArray} {nL : Nat} {ret : Option FieldType} {own : String} {rm : Room} {D : va_G} {N0 : Nat} {gp : Nat → Nat} {X : x_X} {h : x_H} {As : List Value} {lv : List (Nat × Value)} {Q : Option Value → x_X → x_H → Prop} {mc ms : Nat}
    (hy : plainName y.cls = true) (ho : y.cls = own) (hn : (lg_sl As).length ≤ nL) (hlv : lv_args 0 As = lv)
    (body : ∀ (p : Program) (e : Env) (s : State) (m : MethodId) (below : List Frame) (meth : Method) (c : Code), x_C p s m As.toArray meth c cc nL ret own D N0 gp → meth.name = y.name → x_R D s N0 X h s.heap → ∀ ls : Array Slot, lv_has ls nL lv → W p l e rm s m As.toArray below meth c s.heap [] 0 0 (MQ below (x_Qc D N0 Q) As.toArray s mc ms (x_A N0)) (F0 m 0 ls [])) :
    Met l y (ws_ y cc nL ret) rm (x_Pc D N0 gp X h As) (x_Qc D N0 Q) mc ms (x_A N0) := by
  subst ho
  subst hlv
  refine Met.ofW (cc := cc) (maxL := nL) (ret := ret) hy rfl ?_
  intro p e s m args below meth c s₁ B hml hv
  obtain ⟨rfl, hG, hN, hR⟩ := hv
  have hts := atoms_spec (ws := ws_ y cc nL ret) B.pre
  have hts : ∀ w ∈ lw_all, w.before _ s = true := fun w h => hts w (List.mem_cons_of_mem _ h)
  have hown : s.vm.findClass y.cls = some m.cls := findClass_of_methodNamed B.named
  rw [lg_entry_eq]
  exact body p e s m below meth c ⟨⟨B.exec, B.bytes, hml, hown, hts⟩, B.returns, B.notSynchronized, hG, hN⟩ (name_of_methodNamed B.named B.method).1 hR _ (lv_entry As hn)
section XE
variable {p : Program} {l : Launch} {e : Env} {R : Room} {s : State} {m : MethodId} {args : Array Value} {below : List Frame} {meth : Method} {c : Code} {H : Heap} {locs : List Loc} {cells slots : Nat} {Q : State → Prop}
variable {cc : ByteArray} {nL : Nat} {ret : Option FieldType} {own : String} {D : va_G} {N0 : Nat} {gp : Nat → Nat} {X X' : x_X} {h : x_H} {pc : Nat} {ls : Array Slot} {rest : List Value} {a : Nat}
theorem x_aload_nO (hexec : p.tables.exec = Jvm.exec) (hb : c.code = cc) {k : Fin 4} {i : Nat} {o : Option Nat} (hdg : decode cc pc = .ok (.aload_n k, 1)) (hi : (k : Nat) = i) (hl : ls[i]? = some (.val (va_rf o)))
    (kk : W p l e R s m args below meth c H locs cells slots Q (F0 m (pc + 1) ls (va_rf o :: rest))) : W p l e R s m args below meth c H locs cells slots Q (F0 m pc ls rest) := by
  cases o with
  | none => exact lv_aload_nN hexec hb hdg hi hl kk
  | some x => exact lv_aload_n hexec hb hdg hi hl kk
theorem x_aloadO (hexec : p.tables.exec = Jvm.exec) (hb : c.code = cc) {i : Nat} {o : Option Nat} (hdg : decode cc pc = .ok (.aload i, 2)) (hl : ls[i]? = some (.val (va_rf o)))
    (kk : W p l e R s m args below meth c H locs cells slots Q (F0 m (pc + 2) ls (va_rf o :: rest))) : W p l e R s m args below meth c H locs cells slots Q (F0 m pc ls rest) := by
  cases o with
  | none => exact lv_aloadN hexec hb hdg hl kk
  | some x => exact lv_aload hexec hb hdg hl kk
theorem x_astore_nO (hexec : p.tables.exec = Jvm.exec) (hb : c.code = cc) {k : Fin 4} {i nL : Nat} {o : Option Nat} {lv lv' : List (Nat × Value)} (hdg : decode cc pc = .ok (.astore_n k, 1)) (hi : (k : Nat) = i) (h : lv_has ls nL lv) (hn : i < nL) (hl : (i, va_rf o) :: lv.filter (fun q => !(q.1 == i) && !(q.1 + 1 == i && q.2.category == 2)) = lv')
    (kk : ∀ ls' : Array Slot, lv_has ls' nL lv' → W p l e R s m args below meth c H locs cells slots Q (F0 m (pc + 1) ls' rest)) : W p l e R s m args below meth c H locs cells slots Q (F0 m pc ls (va_rf o :: rest)) := by
  cases o with
  | none => exact lv_astore_nN hexec hb hdg hi h hn hl kk
  | some x => exact lv_astore_n hexec hb hdg hi h hn hl kk
theorem x_astoreO (hexec : p.tables.exec = Jvm.exec) (hb : c.code = cc) {i nL : Nat} {o : Option Nat} {lv lv' : List (Nat × Value)} (hdg : decode cc pc = .ok (.astore i, 2)) (h : lv_has ls nL lv) (hn : i < nL) (hl : (i, va_rf o) :: lv.filter (fun q => !(q.1 == i) && !(q.1 + 1 == i && q.2.category == 2)) = lv')
    (kk : ∀ ls' : Array Slot, lv_has ls' nL lv' → W p l e R s m args below meth c H locs cells slots Q (F0 m (pc + 2) ls' rest)) : W p l e R s m args below meth c H locs cells slots Q (F0 m pc ls (va_rf o :: rest)) := by
  cases o with
  | none => exact lv_astoreN hexec hb hdg h hn hl kk
  | some x => exact lv_astore hexec hb hdg h hn hl kk
/-- super(): Object's -/
theorem x_objInit (C : x_C p s m args meth c cc nL ret own D N0 gp) {idx : Nat} (hlink : Cond.methodLink own idx Lib.objectInit ∈ lw_all) (hinst : Cond.instanceMethod Lib.objectInit ∈ lw_all) (hcode : Cond.code Lib.objectInit ⟨#[0xb1]⟩ 1 none ∈ lw_all) (hl : ls.size = nL) (hd : decode cc pc = .ok (.invokespecial idx, 3)) (hframes : 1 ≤ R.frames) (hlocals : (rest.map fun v => v.category).sum + 12 ≤ R.locals)
    (kk : W p l e R s m args below meth c H locs cells slots Q (F0 m (pc + 3) ls rest)) : W p l e R s m args below meth c H locs cells slots Q (F0 m pc ls (.ref a :: rest)) := by
  obtain ⟨⟨hx, hb, hml, hown, hts⟩, -, -, -, -⟩ := C
  exact W.objInit hx hb hown (hts _ hlink) (hts _ hinst) (hts _ hcode) rfl (hl.trans hml.symm) rfl hd hframes (by show 2 * 0 + _ + 12 ≤ _; omega) kk
theorem x_runI (C : x_C p s m args meth c cc nL ret own D N0 gp) (hR : x_R D s N0 X h H) (hS : va_S (x_A N0) s.heap H locs) {y : MethodName} {bytes : ByteArray} {maxL mc ms n index : Nat} {rm : Room} {Qv : Option Value → x_X → x_H → Prop} {b : Nat} {As st0 : List Value}
    (hM : Met l y (ws_ y bytes maxL none) rm (x_Pc D N0 gp X h (.ref b :: As)) (x_Qc D N0 Qv) mc ms (x_A N0)) (hcode : Cond.code y bytes maxL none ∈ lw_all) (hini : Cond.initialized y.cls ∈ lw_all) (hlink : Cond.methodLink own index y ∈ lw_all) (hinst : Cond.instanceMethod y ∈ lw_all) (hrc : rm.cells = mc) (hrs : rm.slots = ms) (hnm : y.name = "<init>") (hd : y.cls ≠ "java/lang/invoke/MethodHandle" ∧ y.cls ≠ "java/lang/invoke/VarHandle" ∧ (parseMethodDescriptor y.desc).map (fun d => d.parameters.length) = some n) (hrm : rm.frames + 1 ≤ R.frames ∧ 8 + (maxL + 11) + rm.locals ≤ R.locals)
    (hn : As.length = n) (hl : ls.size = nL) (hst : st0 = As.reverse ++ .ref b :: rest) (hw : (rest.map fun v => v.category).sum ≤ 8) (hdg : decode cc pc = .ok (.invokespecial index, 3)) (hf : cells + mc ≤ R.cells ∧ slots + ms ≤ R.slots) :
    va_Run p l e R s m args below meth c H locs cells slots mc ms (F0 m pc ls st0) rest (x_Qc D N0 Qv (Value.ref b :: As).toArray) (x_A N0) :=
  have hts := C.1.2.2.2.2
  va_runI C.1 hM (cwI n hts (lw_meth hcode) rfl hrc hrs (hts _ hini) (hts _ hlink) (hts _ hinst) hnm hd hrm) ⟨x_blind, x_pre C hR hS _⟩ rfl hn hl hst (lv_room hw) hdg hf
theorem x_runIN (C : x_C p s m args meth c cc nL ret own D N0 gp) (hR : x_R D s N0 X h H) (hS : va_S (x_A N0) s.heap H locs) {y : MethodName} {host : String} {bytes : ByteArray} {maxL mc ms n index : Nat} {rm : Room} {Qv : Option Value → x_X → x_H → Prop} {b : Nat} {As st0 : List Value}
    (hM : Met l y (ws_ y bytes maxL none) rm (x_Pc D N0 gp X h (.ref b :: As)) (x_Qc D N0 Qv) mc ms (x_A N0)) (hcode : Cond.code y bytes maxL none ∈ lw_all) (hini : Cond.initialized y.cls ∈ lw_all) (hlink : Cond.methodLinkNest own index y host ∈ lw_tbl) (hinst : Cond.instanceMethod y ∈ lw_all) (hrc : rm.cells = mc) (hrs : rm.slots = ms) (hnm : y.name = "<init>") (hd : y.cls ≠ "java/lang/invoke/MethodHandle" ∧ y.cls ≠ "java/lang/invoke/VarHandle" ∧ (parseMethodDescriptor y.desc).map (fun d => d.parameters.length) = some n) (hrm : rm.frames + 1 ≤ R.frames ∧ 8 + (maxL + 11) + rm.locals ≤ R.locals)
    (hn : As.length = n) (hl : ls.size = nL) (hst : st0 = As.reverse ++ .ref b :: rest) (hw : (rest.map fun v => v.category).sum ≤ 8) (hdg : decode cc pc = .ok (.invokespecial index, 3)) (hf : cells + mc ≤ R.cells ∧ slots + ms ≤ R.slots) :
    va_Run p l e R s m args below meth c H locs cells slots mc ms (F0 m pc ls st0) rest (x_Qc D N0 Qv (Value.ref b :: As).toArray) (x_A N0) :=
  have hts := C.1.2.2.2.2
  va_runIN C.1 hM ⟨va_cnB n hts (lw_meth hcode) rfl hrc hrs (x_nest C hlink rfl) (hts _ hini) hd hrm, hnm, hts _ hinst⟩ ⟨x_blind, x_pre C hR hS _⟩ rfl hn hl hst (lv_room hw) hdg hf
theorem x_runSN (C : x_C p s m args meth c cc nL ret own D N0 gp) (hR : x_R D s N0 X h H) (hS : va_S (x_A N0) s.heap H locs) {y : MethodName} {host : String} {bytes : ByteArray} {maxL mc ms n index : Nat} {rt : Option FieldType} {rm : Room} {Qv : Option Value → x_X → x_H → Prop} {As st0 : List Value}
    (hM : Met l y (ws_ y bytes maxL rt) rm (x_Pc D N0 gp X h As) (x_Qc D N0 Qv) mc ms (x_A N0)) (hcode : Cond.code y bytes maxL rt ∈ lw_all) (hini : Cond.initialized y.cls ∈ lw_all) (hlink : Cond.methodLinkNest own index y host ∈ lw_tbl) (hstat : Cond.static y ∈ lw_all) (hrc : rm.cells = mc) (hrs : rm.slots = ms) (hd : y.cls ≠ "java/lang/invoke/MethodHandle" ∧ y.cls ≠ "java/lang/invoke/VarHandle" ∧ (parseMethodDescriptor y.desc).map (fun d => d.parameters.length) = some n) (hrm : rm.frames + 1 ≤ R.frames ∧ 8 + (maxL + 11) + rm.locals ≤ R.locals)
    (hn : As.length = n) (hl : ls.size = nL) (hst : st0 = As.reverse ++ rest) (hw : (rest.map fun v => v.category).sum ≤ 8) (hdg : decode cc pc = .ok (.invokestatic index, 3)) (hf : cells + mc ≤ R.cells ∧ slots + ms ≤ R.slots) :
    va_Run p l e R s m args below meth c H locs cells slots mc ms (F0 m pc ls st0) rest (x_Qc D N0 Qv As.toArray) (x_A N0) :=
  have hts := C.1.2.2.2.2
  va_runSN C.1 hM ⟨va_cnB n hts (lw_meth hcode) rfl hrc hrs (x_nest C hlink rfl) (hts _ hini) hd hrm, hts _ hstat, trivial⟩ ⟨x_blind, x_pre C hR hS _⟩ rfl hn hl hst (lv_room hw) hdg hf
theorem x_runSU (C : x_C p s m args meth c cc nL ret own D N0 gp) (hR : x_R D s N0 X h H) (hS : va_S (x_A N0) s.heap H locs) {y : MethodName} {bytes : ByteArray} {maxL mc ms n index ci : Nat} {q : vw_C} {rt : Option FieldType} {rm : Room} {Qv : Option Value → x_X → x_H → Prop} {b : Nat} {fs : List Value} {As st0 : List Value}
    (hM : Met l y (ws_ y bytes maxL rt) rm (x_Pc D N0 gp X h (.ref b :: As)) (x_Qc D N0 Qv) mc ms (x_A N0)) (hg : GoodIn lw_all (va_wsSU own index y (ws_ y bytes maxL rt))) (hrc : rm.cells = mc) (hrs : rm.slots = ms) (hd : y.name ≠ "<init>" ∧ (parseMethodDescriptor y.desc).map (fun d => d.parameters.length) = some n) (hrm : rm.frames + 1 ≤ R.frames ∧ 8 + (maxL + 11) + rm.locals ≤ R.locals)
    (hrd : x_rd D s b (.inr (ci, fs)) H) (hc : x_cl[ci]? = some q) (hn : As.length = n) (hl : ls.size = nL) (hst : st0 = As.reverse ++ .ref b :: rest) (hw : (rest.map fun v => v.category).sum ≤ 8) (hdg : decode cc pc = .ok (.invokespecial index, 3)) (hf : cells + mc ≤ R.cells ∧ slots + ms ≤ R.slots) :
    va_Run p l e R s m args below meth c H locs cells slots mc ms (F0 m pc ls st0) rest (x_Qc D N0 Qv (Value.ref b :: As).toArray) (x_A N0) :=
  va_runSU (C := q.1) (C.2.2.2.1.1 ci _ hc).2 C.1 hM (va_cwSU n C.1.2.2.2.2 hg rfl hrc hrs hd hrm) ⟨x_blind, x_recv C hrd hc, x_pre C hR hS _⟩ rfl hn hl hst (lv_room hw) hdg hf
theorem x_runU (C : x_C p s m args meth c cc nL ret own D N0 gp) (hR : x_R D s N0 X h H) (hS : va_S (x_A N0) s.heap H locs) {x y : MethodName} {owner Cn : String} {bytes : ByteArray} {maxL mc ms n index : Nat} {rt : Option FieldType} {rm : Room} {Qv : Option Value → x_X → x_H → Prop} {b : Nat} {As st0 : List Value}
    (hM : Met l y (ws_ y bytes maxL rt) rm (x_Pc D N0 gp X h (.ref b :: As)) (x_Qc D N0 Qv) mc ms (x_A N0)) (cw : va_CU R s args own Cn owner index x y bytes maxL rt (ws_ y bytes maxL rt) rm mc ms n)
    (hv : ∃ cell : Cell, H[b]? = some cell ∧ cell.vm.isStatics = false ∧ s.vm.findClass Cn = some cell.cls) (hn : As.length = n) (hl : ls.size = nL) (hst : st0 = As.reverse ++ .ref b :: rest) (hw : (rest.map fun v => v.category).sum ≤ 8) (hdg : decode cc pc = .ok (.invokevirtual index, 3)) (hf : cells + mc ≤ R.cells ∧ slots + ms ≤ R.slots) :
    va_Run p l e R s m args below meth c H locs cells slots mc ms (F0 m pc ls st0) rest (x_Qc D N0 Qv (Value.ref b :: As).toArray) (x_A N0) :=
  va_runU C.1 hM cw ⟨x_blind, hv, x_pre C hR hS _⟩ rfl hn hl hst (lv_room hw) hdg hf
/-- a private method is the one that is found, whatever the receiver's class -/
theorem x_selP {y : MethodName} {Cn : String} {cC : ClassId} (hC : ClassAt s Cn cC) (hy : y.cls ≠ "java/lang/invoke/MethodHandle" ∧ y.cls ≠ "java/lang/invoke/VarHandle") (hpriv : (Cond.privateMethod y).before args s = true) (hinst : (Cond.instanceMethod y).before args s = true) (hsame : (Cond.sameMethod y.cls y.cls y.name y.desc).before args s = true) : (Cond.selects Cn y y).before args s = true := by
  obtain ⟨mk, methM, hnamed, hmethM, -, -⟩ := Cond.instanceMethod_spec hinst
  have hfound : s.methodFound? y.cls y.name y.desc = some mk := State.methodFound?_of_named hnamed hy
  obtain ⟨cn, ck, r1, hcn, hck, hni, hf, hn1⟩ := Cond.sameMethod_found hsame
  have hcls : mk.cls = cn := Option.some.inj ((findClass_of_methodNamed hnamed).symm.trans hcn)
  have hsel : selectMethod {} s.vm cC mk = .method mk := selectMethod_private hmethM (Cond.privateMethod_at hpriv mk methM hnamed hmethM)
  have hc := hC.1
  simp only [Cond.before, Cond.holds, Cond.value, hc, hfound, hnamed, hsel, hcls, hck]
  simp; exact hni
theorem x_cwP (C : x_C p s m args meth c cc nL ret own D N0 gp) {y : MethodName} {Cn : String} {T : u_T} {N : Nat} {bytes : ByteArray} {maxL mc ms index : Nat} {rt : Option FieldType} {rm : Room} (n ci : Nat) (hc : x_cl[ci]? = some (Cn, T, N)) (h1 : Cond.methodLink own index y ∈ lw_all) (h2 : Cond.sameMethod y.cls y.cls y.name y.desc ∈ lw_all) (h3 : Cond.privateMethod y ∈ lw_tbl) (h4 : Cond.instanceMethod y ∈ lw_all) (h5 : Cond.initialized y.cls ∈ lw_all) (h6 : Cond.code y bytes maxL rt ∈ lw_all) (hrc : rm.cells = mc) (hrs : rm.slots = ms)
    (hd : y.cls ≠ "java/lang/invoke/MethodHandle" ∧ y.cls ≠ "java/lang/invoke/VarHandle" ∧ (parseMethodDescriptor y.desc).map (fun d => d.parameters.length) = some n) (hrm : rm.frames + 1 ≤ R.frames ∧ 8 + (maxL + 11) + rm.locals ≤ R.locals) : va_CU R s args own Cn y.cls index y y bytes maxL rt (ws_ y bytes maxL rt) rm mc ms n := by
  have hp := x_nest C h3 rfl
  obtain ⟨⟨hx, hb, hml, hown, hts⟩, -, -, hG, -⟩ := C
  refine ⟨⟨hrc, hrs, hrm.1, hrm.2, pay_in hts (lw_meth h6), List.mem_cons_self⟩, hts _ h6, hts _ h5, ⟨hd.1, hd.2.1⟩, fun sig hq => ?_, hts _ h1, hts _ h2, va_Decl.of (hts _ h4) (hts _ h6), x_selP (hG.1 ci _ hc).2 ⟨hd.1, hd.2.1⟩ (va_Nw.use rfl hp) (hts _ h4) (hts _ h2), hts _ h4⟩
  have h9 := hd.2.2
  rw [hq] at h9
  exact (Option.some.inj h9).symm
/-- statics, constants -/
theorem x_gets (C : x_C p s m args meth c cc nL ret own D N0 gp) (hS : va_S (x_A N0) s.heap H locs) {Cn n d : String} {v : Value} {index : Nat} (hZ : va_Z Cn n d v (x_A N0) s s.heap) (hlink : Cond.fieldLink own index Cn n d ∈ lw_all) (hdg : decode cc pc = .ok (.getstatic index, 3))
    (kk : W p l e R s m args below meth c H locs cells slots Q (F0 m (pc + 3) ls (v :: rest))) : W p l e R s m args below meth c H locs cells slots Q (F0 m pc ls rest) := by
  obtain ⟨⟨hx, hb, hml, hown, hts⟩, -, -, hG, -⟩ := C
  exact va_gets hx hb hZ hS hown (hts _ hlink) (fun _ h9 => h9) hdg kk
theorem x_ldcS (C : x_C p s m args meth c cc nL ret own D N0 gp) {index k : Nat} {tx : String} (hq : (own, index, tx, k) ∈ x_strs) (hdg : decode cc pc = .ok (.ldc index, 2))
    (kk : W p l e R s m args below meth c H locs cells slots Q (F0 m (pc + 2) ls (.ref (gp k) :: rest))) : W p l e R s m args below meth c H locs cells slots Q (F0 m pc ls rest) := by
  obtain ⟨⟨hx, hb, hml, hown, hts⟩, -, -, hG, -⟩ := C
  exact va_ldcS hx hb hown (hG.2.2.2.1 _ hq) hdg kk
theorem x_ldcM (C : x_C p s m args meth c cc nL ret own D N0 gp) {index : Nat} (hlink : Cond.classLink own index "[Ljava/lang/Object;" ∈ lw_all) (hdg : decode cc pc = .ok (.ldc index, 2))
    (kk : W p l e R s m args below meth c H locs cells slots Q (F0 m (pc + 2) ls (.ref (gp 2) :: rest))) : W p l e R s m args below meth c H locs cells slots Q (F0 m pc ls rest) := by
  obtain ⟨⟨hx, hb, hml, hown, hts⟩, -, -, hG, -⟩ := C
  exact va_ldcM hx hb hown (hts _ hlink) hG.2.2.2.2.1 hdg kk
/-- getClass of an Object[] of the run's own -/
theorem x_getCls (C : x_C p s m args meth c cc nL ret own D N0 gp) (hR : x_R D s N0 X h H) {t index : Nat} {x : vp_A} (he : h a = some (t, .inl (.object "java/lang/Object", x))) (ht : t ≠ 1) (hlink : Cond.methodLink own index ⟨"java/lang/Object", "getClass", "()Ljava/lang/Class;"⟩ ∈ lw_all) (hdecl : Cond.declares ⟨"java/lang/Object", "getClass", "()Ljava/lang/Class;"⟩ ∈ lw_tbl)
    (hsel : Cond.selects "[Ljava/lang/Object;" ⟨"java/lang/Object", "getClass", "()Ljava/lang/Class;"⟩ ⟨"java/lang/Object", "getClass", "()Ljava/lang/Class;"⟩ ∈ lw_all) (hinst : Cond.instanceMethod ⟨"java/lang/Object", "getClass", "()Ljava/lang/Class;"⟩ ∈ lw_all) (hnat : Cond.native ⟨"java/lang/Object", "getClass", "()Ljava/lang/Class;"⟩ ∈ lw_all) (hl : ls.size = nL) (hframes : 1 ≤ R.frames) (hlocals : (rest.map fun v => v.category).sum + 14 ≤ R.locals) (hdg : decode cc pc = .ok (.invokevirtual index, 3))
    (kk : W p l e R s m args below meth c H locs cells slots Q (F0 m (pc + 3) ls (.ref (gp 2) :: rest))) : W p l e R s m args below meth c H locs cells slots Q (F0 m pc ls (.ref a :: rest)) := by
  have hde := x_nest C hdecl rfl
  obtain ⟨hN, cA, hA, h1⟩ := hR.atH he ht
  rw [x_cell] at h1
  obtain ⟨⟨hx, hb, hml, hown, hts⟩, -, -, hG, -⟩ := C
  obtain ⟨kA, comp, k1, k2, k3, k4⟩ := hA.2
  exact va_getC hx hb (hml.trans hl.symm) hown (hts _ hlink) (va_Nw.use rfl hde) (hts _ hsel) (hts _ hinst) (hts _ hnat) hG.2.2.2.2.1 ⟨_, h1, rfl, k4⟩ hframes hlocals hdg kk
/-- System.arraycopy of bytes -/
theorem x_copyB (C : x_C p s m args meth c cc nL ret own D N0 gp) (hR : x_R D s N0 X h H) (hS : va_S (x_A N0) s.heap H locs) {index a0 t0 t1 n0 n1 : Nat} {f g : Nat → Int32} (hlink : Cond.methodLink own index arraycopyName ∈ lw_all) (hnat : Cond.native arraycopyName ∈ lw_all) (hstat : Cond.static arraycopyName ∈ lw_all) (hini : Cond.initialized "java/lang/System" ∈ lw_all)
    (he0 : h a0 = some (t0, .inl (.byte, (n0, .inl f)))) (ht0 : t0 ≠ 1) (he1 : h a = some (t1, .inl (.byte, (n1, .inl g)))) (ht1 : t1 ≠ 1)
    {sp dp n : Int32} (h1 : ¬ sp < 0) (h2 : ¬ dp < 0) (h3 : ¬ n < 0) (h4 : sp.toNatClampNeg + n.toNatClampNeg ≤ n0) (h5 : dp.toNatClampNeg + n.toNatClampNeg ≤ n1) (hfit : ∀ i, i < n.toNatClampNeg → fits .byte (.int (f (sp.toNatClampNeg + i))) = true)
    (hl : ls.size = nL) (hframes : 1 ≤ R.frames) (hlocals : (rest.map fun v => v.category).sum + (nativeFrameWords "java/lang/System" "arraycopy" 5 + 11) ≤ R.locals) (hdg : decode cc pc = .ok (.invokestatic index, 3))
    (kk : ∀ (H1 : Heap) (locs1 : List Loc), x_R D s N0 X (x_hs h a t1 (.inl (.byte, (n1, .inl (va_cpy f g sp.toNatClampNeg dp.toNatClampNeg n.toNatClampNeg))))) H1 → va_S (x_A N0) s.heap H1 locs1 → W p l e R s m args below meth c H1 locs1 cells slots Q (F0 m (pc + 3) ls rest)) : W p l e R s m args below meth c H locs cells slots Q (F0 m pc ls (.int n :: .int dp :: .ref a :: .int sp :: .ref a0 :: rest)) := by
  obtain ⟨hN0, c0, hA0, hc0⟩ := hR.atH he0 ht0
  obtain ⟨hN1, c1, hA1, hc1⟩ := hR.atH he1 ht1
  obtain ⟨⟨hx, hb, hml, hown, hts⟩, -, -, hG, -⟩ := C
  have nn : ∀ z : Int32, ¬ z < 0 → z.toInt = (z.toNatClampNeg : Int) := by
    intro z hz
    have hz0 : (0 : Int) ≤ z.toInt := by
      have := Int32.not_lt.mp hz
      simpa using Int32.le_iff_toInt_le.mp this
    show z.toInt = ((z.toInt.toNat : Nat) : Int)
    omega
  intro T hT XX
  obtain ⟨-, k0, hk0, cm0, hkk0⟩ := hA0.1 n0 (fun j => .int (f j))
  obtain ⟨-, k1, hk1, cm1, hkk1⟩ := hA1.1 n1 (fun j => .int (g j))
  obtain ⟨vm', X', step⟩ := XX.arraycopy hx hown (hts _ hlink) (hts _ hnat) (hts _ hstat) (hts _ hini) (src := a0) (dst := a) (cs := vp_cell c0 (n0, .inl f)) (cd := vp_cell c1 (n1, .inl g)) (srcPos := sp) (destPos := dp) (n := n) (by rw [hT]; exact hc0) (by rw [hT]; exact hc1)
    (fun _ h => by cases h) (fun _ h => by cases h) (fun h => by cases h) (fun h => by cases h) hk0 hk1 hkk0 hkk1 (by simp [refKind]) h1 h2 h3
    (by rw [nn sp h1, nn n h3]; show ¬ _ > ((arrV c0 n0 (fun j => .int (f j))).slots.size : Int); rw [arrV_size]; omega)
    (by rw [nn dp h2, nn n h3]; show ¬ _ > ((arrV c1 n1 (fun j => .int (g j))).slots.size : Int); rw [arrV_size]; omega)
    (fun vm₁ _ i hi => by
      have e : (vp_cell c0 (n0, .inl f)).slots.getD (sp.toNatClampNeg + i) .null = .int (f (sp.toNatClampNeg + i)) := by
        show (arrV c0 n0 (fun j => .int (f j))).slots.getD _ _ = _
        rw [Array.getD_eq_getD_getElem?, arrV_read _ _ (by omega)]
        rfl
      refine ⟨?_, ?_⟩
      · rw [e]
        exact hfit i hi
      · rw [e]
        exact trivial)
    (g := F0 m pc ls (.int n :: .int dp :: .ref a :: .int sp :: .ref a0 :: rest)) rfl (by rw [hl, hml]) (rest := rest) rfl (by rw [hb]; exact hdg) hframes (by show 2 * 0 + _ + _ ≤ _; omega)
  have e1 : copied (vp_cell c0 (n0, .inl f)) (vp_cell c1 (n1, .inl g)) sp dp n = vp_cell c1 (n1, .inl (va_cpy f g sp.toNatClampNeg dp.toNatClampNeg n.toNatClampNeg)) := va_copied (fun z => .int z) c0 c1 f g h4
  rw [e1] at X' step
  have hla : a < H.size := (Array.getElem?_eq_some_iff.mp hc1).1
  have hheap : ((T.setVm vm').setCell a (vp_cell c1 (n1, .inl (va_cpy f g sp.toNatClampNeg dp.toNatClampNeg n.toNatClampNeg)))).heap = H.setIfInBounds a (vp_cell c1 (n1, .inl (va_cpy f g sp.toNatClampNeg dp.toNatClampNeg n.toNatClampNeg))) := by rw [← hT]; rfl
  have oq : ∀ q : Nat, q ≠ a → (H.setIfInBounds a (vp_cell c1 (n1, .inl (va_cpy f g sp.toNatClampNeg dp.toNatClampNeg n.toNatClampNeg))))[q]? = H[q]? := fun q hq => by simp [Array.getElem?_setIfInBounds, Ne.symm hq]
  obtain ⟨t, a1, b1⟩ := kk _ _ (hR.putH he1 ht1 ⟨c1, hA1, (by simp [Array.getElem?_setIfInBounds, hla])⟩ oq) ⟨by simp; exact hS.1, fun q g1 g2 => by
      rw [oq q (fun e => g2 (by rw [e]; exact hN1))]
      exact hS.2.1 q g1 g2, fun q hq => by
      rcases List.mem_append.mp hq with h | h
      · exact hS.2.2 q h
      · obtain ⟨z, -, hz⟩ := List.mem_map.mp h
        rw [← hz]
        exact hN1⟩ _ hheap X'
  exact ⟨t, step t a1, b1⟩
/-- .. of objects that a list may hold -/
theorem x_copyQ (C : x_C p s m args meth c cc nL ret own D N0 gp) (hR : x_R D s N0 X h H) (hS : va_S (x_A N0) s.heap H locs) {index a0 t0 t1 n0 n1 : Nat} {f g : Nat → Option Nat} (hlink : Cond.methodLink own index arraycopyName ∈ lw_all) (hnat : Cond.native arraycopyName ∈ lw_all) (hstat : Cond.static arraycopyName ∈ lw_all) (hini : Cond.initialized "java/lang/System" ∈ lw_all)
    (he0 : h a0 = some (t0, .inl (.object "java/lang/Object", (n0, .inr (.inr (.inr (.inr f))))))) (ht0 : t0 ≠ 1) (he1 : h a = some (t1, .inl (.object "java/lang/Object", (n1, .inr (.inr (.inr (.inr g))))))) (ht1 : t1 ≠ 1)
    {sp dp n : Int32} (h1 : ¬ sp < 0) (h2 : ¬ dp < 0) (h3 : ¬ n < 0) (h4 : sp.toNatClampNeg + n.toNatClampNeg ≤ n0) (h5 : dp.toNatClampNeg + n.toNatClampNeg ≤ n1) (hel : ∀ i, i < n.toNatClampNeg → ∀ y : Nat, f (sp.toNatClampNeg + i) = some y → x_el h y)
    (hl : ls.size = nL) (hframes : 1 ≤ R.frames) (hlocals : (rest.map fun v => v.category).sum + (nativeFrameWords "java/lang/System" "arraycopy" 5 + 11) ≤ R.locals) (hdg : decode cc pc = .ok (.invokestatic index, 3))
    (kk : ∀ (H1 : Heap) (locs1 : List Loc), x_R D s N0 X (x_hs h a t1 (.inl (.object "java/lang/Object", (n1, .inr (.inr (.inr (.inr (va_cpy f g sp.toNatClampNeg dp.toNatClampNeg n.toNatClampNeg)))))))) H1 → va_S (x_A N0) s.heap H1 locs1 → W p l e R s m args below meth c H1 locs1 cells slots Q (F0 m (pc + 3) ls rest)) : W p l e R s m args below meth c H locs cells slots Q (F0 m pc ls (.int n :: .int dp :: .ref a :: .int sp :: .ref a0 :: rest)) := by
  have hany : ∀ i, i < n.toNatClampNeg → ∀ y : Nat, f (sp.toNatClampNeg + i) = some y → va_Any "java/lang/Object" s H y := fun i hi y hy => x_any C hR (hel i hi y hy)
  obtain ⟨hN0, c0, hA0, hc0⟩ := hR.atH he0 ht0
  obtain ⟨hN1, c1, hA1, hc1⟩ := hR.atH he1 ht1
  obtain ⟨⟨hx, hb, hml, hown, hts⟩, -, -, hG, -⟩ := C
  have nn : ∀ z : Int32, ¬ z < 0 → z.toInt = (z.toNatClampNeg : Int) := by
    intro z hz
    have hz0 : (0 : Int) ≤ z.toInt := by
      have := Int32.not_lt.mp hz
      simpa using Int32.le_iff_toInt_le.mp this
    show z.toInt = ((z.toInt.toNat : Nat) : Int)
    omega
  intro T hT XX
  obtain ⟨-, k0, hk0, cm0, hkk0⟩ := hA0.1 n0 (fun j => va_rf (f j))
  obtain ⟨-, k1, hk1, cm1, hkk1⟩ := hA1.1 n1 (fun j => va_rf (g j))
  obtain ⟨vm', X', step⟩ := XX.arraycopy hx hown (hts _ hlink) (hts _ hnat) (hts _ hstat) (hts _ hini) (src := a0) (dst := a) (cs := vp_cell c0 (n0, .inr (.inr (.inr (.inr f))))) (cd := vp_cell c1 (n1, .inr (.inr (.inr (.inr g))))) (srcPos := sp) (destPos := dp) (n := n) (by rw [hT]; exact hc0) (by rw [hT]; exact hc1)
    (fun _ h => by cases h) (fun _ h => by cases h) (fun h => by cases h) (fun h => by cases h) hk0 hk1 hkk0 hkk1 rfl h1 h2 h3
    (by rw [nn sp h1, nn n h3]; show ¬ _ > ((arrV c0 n0 (fun j => va_rf (f j))).slots.size : Int); rw [arrV_size]; omega)
    (by rw [nn dp h2, nn n h3]; show ¬ _ > ((arrV c1 n1 (fun j => va_rf (g j))).slots.size : Int); rw [arrV_size]; omega)
    (fun vm₁ hal i hi => by
      have e : (vp_cell c0 (n0, .inr (.inr (.inr (.inr f))))).slots.getD (sp.toNatClampNeg + i) .null = va_rf (f (sp.toNatClampNeg + i)) := by
        show (arrV c0 n0 (fun j => va_rf (f j))).slots.getD _ _ = _
        rw [Array.getD_eq_getD_getElem?, arrV_read _ _ (by omega)]
        rfl
      rw [e]
      cases hy : f (sp.toNatClampNeg + i) with
      | none => exact ⟨rfl, trivial⟩
      | some y =>
        obtain ⟨cellV, g1, g2, ⟨kC, hkC⟩, hasg⟩ := hany i hi y hy
        obtain ⟨kA, comp, r1, r2, r3, -⟩ := hA1.2
        cases hk1.symm.trans r1
        cases hkk1.symm.trans r2
        obtain ⟨kE, hkE, -⟩ := Vm.findClass_spec r3
        obtain ⟨kC', hkC', -⟩ := hal.2.2 _ _ hkC
        obtain ⟨kE', hkE', -⟩ := hal.2.2 _ _ hkE
        refine ⟨rfl, cellV, (show T.heap[y]? = some cellV by rw [hT]; exact g1), (fun q h => by rw [h] at g2; cases g2), ⟨kC', hkC'⟩, ?_, ?_⟩
        · exact ⟨kE', hkE'⟩
        · show vm₁.assignable _ _ = true
          rw [hal.assignable]
          exact hasg _ r3)
    (g := F0 m pc ls (.int n :: .int dp :: .ref a :: .int sp :: .ref a0 :: rest)) rfl (by rw [hl, hml]) (rest := rest) rfl (by rw [hb]; exact hdg) hframes (by show 2 * 0 + _ + _ ≤ _; omega)
  have e1 : copied (vp_cell c0 (n0, .inr (.inr (.inr (.inr f))))) (vp_cell c1 (n1, .inr (.inr (.inr (.inr g))))) sp dp n = vp_cell c1 (n1, .inr (.inr (.inr (.inr (va_cpy f g sp.toNatClampNeg dp.toNatClampNeg n.toNatClampNeg))))) := by
    rw [vp_cell_q, vp_cell_q, vp_cell_q]
    exact va_copied (fun z => va_rf z) c0 c1 f g h4
  rw [e1] at X' step
  have hla : a < H.size := (Array.getElem?_eq_some_iff.mp hc1).1
  have hheap : ((T.setVm vm').setCell a (vp_cell c1 (n1, .inr (.inr (.inr (.inr (va_cpy f g sp.toNatClampNeg dp.toNatClampNeg n.toNatClampNeg))))))).heap = H.setIfInBounds a (vp_cell c1 (n1, .inr (.inr (.inr (.inr (va_cpy f g sp.toNatClampNeg dp.toNatClampNeg n.toNatClampNeg)))))) := by rw [← hT]; rfl
  have oq : ∀ q : Nat, q ≠ a → (H.setIfInBounds a (vp_cell c1 (n1, .inr (.inr (.inr (.inr (va_cpy f g sp.toNatClampNeg dp.toNatClampNeg n.toNatClampNeg)))))))[q]? = H[q]? := fun q hq => by simp [Array.getElem?_setIfInBounds, Ne.symm hq]
  obtain ⟨t, a1, b1⟩ := kk _ _ (hR.putH he1 ht1 ⟨c1, hA1, (by simp [Array.getElem?_setIfInBounds, hla])⟩ oq) ⟨by simp; exact hS.1, fun q g1 g2 => by
      rw [oq q (fun e => g2 (by rw [e]; exact hN1))]
      exact hS.2.1 q g1 g2, fun q hq => by
      rcases List.mem_append.mp hq with h | h
      · exact hS.2.2 q h
      · obtain ⟨z, -, hz⟩ := List.mem_map.mp h
        rw [← hz]
        exact hN1⟩ _ hheap X'
  exact ⟨t, step t a1, b1⟩
/-- clone of a byte[] -/
theorem x_cloneB (C : x_C p s m args meth c cc nL ret own D N0 gp) (hR : x_R D s N0 X h H) (hS : va_S (x_A N0) s.heap H locs) {index t n : Nat} {f : Nat → Int32}
    (hlink : Cond.methodLink own index ⟨"[B", "clone", "()Ljava/lang/Object;"⟩ ∈ lw_all) (hsame : Cond.sameMethod "[B" "java/lang/Object" "clone" "()Ljava/lang/Object;" ∈ lw_all)
    (hnat : Cond.native ⟨"java/lang/Object", "clone", "()Ljava/lang/Object;"⟩ ∈ lw_all) (hinst : Cond.instanceMethod ⟨"java/lang/Object", "clone", "()Ljava/lang/Object;"⟩ ∈ lw_all)
    (hsel : Cond.selects "[B" ⟨"[B", "clone", "()Ljava/lang/Object;"⟩ ⟨"java/lang/Object", "clone", "()Ljava/lang/Object;"⟩ ∈ lw_all) (hcl : Cond.castable "[B" "java/lang/Cloneable" ∈ lw_tbl)
    (he : h a = some (t, .inl (.byte, (n, .inl f)))) (ht : t ≠ 1) (hfit : ∀ i, i < n → fits .byte (.int (f i)) = true)
    (hl : ls.size = nL) (hframes : 1 ≤ R.frames) (hlocals : (rest.map fun v => v.category).sum + 14 ≤ R.locals) (hcells : cells + 1 ≤ R.cells) (hslots : slots + n ≤ R.slots) (hdg : decode cc pc = .ok (.invokevirtual index, 3))
    (kk : ∀ (q : Nat) (H1 : Heap), h q = none → (∀ t : Nat, t ≠ 1 → x_R D s N0 X (x_hs h q t (.inl (.byte, (n, .inl f)))) H1) → va_S (x_A N0) s.heap H1 locs → W p l e R s m args below meth c H1 locs (cells + 1) (slots + n) Q (F0 m (pc + 3) ls (.ref q :: rest))) : W p l e R s m args below meth c H locs cells slots Q (F0 m pc ls (.ref a :: rest)) := by
  have hcn := x_nest C hcl rfl
  obtain ⟨hNa, cA, hA, hc1⟩ := hR.atH he ht
  obtain ⟨⟨hx, hb, hml, hown, hts⟩, -, -, hG, hN⟩ := C
  obtain ⟨c0, t0', f1, f2, f3⟩ := Cond.castable_spec (va_Nw.use (A := args) rfl hcn)
  have hnm : s.vm.findClass "[B" = some cA := hA.2
  cases hnm.symm.trans f1
  intro T hT XX
  have hcellT : T.heap[a]? = some (vp_cell cA (n, .inl f)) := by rw [hT]; exact hc1
  obtain ⟨-, kA, hkA, comp, hkind⟩ := State.isArrayOf_alike XX.warmed.alike (hA.1 0 (fun _ => .null))
  obtain ⟨-, kS, hkS, compS, hkindS⟩ := hA.1 0 (fun _ => .null)
  obtain ⟨vm', X', st⟩ := XX.cloneArray hx hown (hts _ hlink) (hts _ hsame) (hts _ hnat) (hts _ hinst) (hts _ hsel) (a := a) (cell := vp_cell cA (n, .inl f)) hcellT (fun k h => by cases h) (fun h => by cases h) hnm f2 f3
    (fun i v hv => by
      have hk' : T.vm.classes[cA]? = some kA := hkA
      have hfv : fits .byte v = true := va_fit (F := fun j => .int (f j)) (fun i hi => hfit i hi) i v hv
      simpa [State.fitsSlot, State.slotType?, vp_cell, arrV, hk', hkind] using hfv)
    (g := F0 m pc ls (.ref a :: rest)) rfl (by rw [hl, hml]) rfl (by rw [hb]; exact hdg) hframes (by show 2 * 0 + _ + 14 ≤ _; omega) hcells (by rw [vp_cell_i, arrV_size]; exact hslots) (hloader := Vm.clonesLoader_of_array hkS hkindS)
  have hsz : (vp_cell cA (n, .inl f)).slots.size = n := arrV_size _ _ _
  rw [show ({ cls := (vp_cell cA (n, .inl f)).cls, slots := (vp_cell cA (n, .inl f)).slots } : Cell) = vp_cell cA (n, .inl f) from rfl, hsz] at X'
  generalize hH1 : H.push (vp_cell cA (n, .inl f)) = H1
  have z1 : H1.size = H.size + 1 := by rw [← hH1, Array.size_push]
  have e1 : H1[H.size]? = some (vp_cell cA (n, .inl f)) := by rw [← hH1, Array.getElem?_push_size]
  have o1 : ∀ q : Nat, q < H.size → H1[q]? = H[q]? := fun q hq => by rw [← hH1, Array.getElem?_push, if_neg (Nat.ne_of_lt hq)]
  obtain ⟨t9, b1, b2⟩ := kk H.size H1 hR.fresh (fun t ht => hR.newH (Nat.le_trans hN hS.1) ht ⟨cA, hA, e1⟩ o1) ⟨Nat.le_trans hS.1 (by omega), fun x h1 h2 => (o1 x (Nat.lt_of_lt_of_le h1 hS.1)).trans (hS.2.1 x h1 h2), hS.2.2⟩ _ (by rw [← hH1, ← hT]; rfl) X'
  refine ⟨t9, st t9 ?_, b2⟩
  rw [hT]
  exact b1
end XE
theorem x_narO (ty : String) (o : Option Nat) : narrow (.object ty) (va_rf o) = va_rf o := by cases o <;> rfl
theorem x_fitO (ty : String) (o : Option Nat) : fits (.object ty) (va_rf o) = true := by cases o <;> rfl
theorem x_narA (ty : FieldType) (o : Option Nat) : narrow (.array ty) (va_rf o) = va_rf o := by cases o <;> rfl
theorem x_fitA (ty : FieldType) (o : Option Nat) : fits (.array ty) (va_rf o) = true := by cases o <;> rfl
