/-! THE FRAME, second part: cells that come and go, the JDK's own members, calls of every kind -/
set_option maxRecDepth 100000
/-- field k of the object at a (of the class ci) holds v -/
def x_f (h : x_H) (a ci k : Nat) (v : Value) : Prop := ∃ (t : Nat) (fs : List Value), h a = some (t, .inr (ci, fs)) ∧ fs[k]? = some v
/-- an object that a list may hold -/
def x_el (h : x_H) (a : Nat) : Prop := ∃ (t ci : Nat) (fs : List Value), h a = some (t, .inr (ci, fs)) ∧ (ci = 2 ∨ ci = 4 ∨ ci = 6)
theorem x_tblw {c : Cond} {s : State} (h : x_wd s) (hw : c ∈ lw_tbl) (hn : x_isN c = true) : va_Nw c s := h c hw hn
section XD
variable {p : Program} {l : Launch} {e : Env} {R : Room} {s : State} {m : MethodId} {args : Array Value} {below : List Frame} {meth : Method} {c : Code} {H : Heap} {locs : List Loc} {cells slots : Nat} {Q : State → Prop}
variable {cc : ByteArray} {nL : Nat} {ret : Option FieldType} {own : String} {D : va_G} {N0 : Nat} {gp : Nat → Nat} {X X' : x_X} {h : x_H} {pc : Nat} {ls : Array Slot} {rest : List Value} {a : Nat}
/-- a word that rides outside the lists -/
theorem x_nest (C : x_C p s m args meth c cc nL ret own D N0 gp) {w : Cond} (hw : w ∈ lw_tbl) (hn : x_isN w = true) : va_Nw w s := C.2.2.2.1.2.1 w hw hn
theorem x_getH (C : x_C p s m args meth c cc nL ret own D N0 gp) (hR : x_R D s N0 X h H) {ref Cn : String} {T : u_T} {N ci index k : Nat} {v : Value} (hf : x_f h a ci k v) (hc : x_cl[ci]? = some (Cn, T, N)) (hin : ∀ w ∈ u_ws Cn T N, w ∈ lw_all) (hk : k < N) (hlink : Cond.fieldLink own index ref (T k).2.1 (T k).2.2.1 ∈ lw_all)
    (hsame : ∀ x, s.fieldFound? (T k).1 (T k).2.1 (T k).2.2.1 = some x → s.fieldFound? ref (T k).2.1 (T k).2.2.1 = some x) (hdg : decode cc pc = .ok (.getfield index, 3))
    (kk : W p l e R s m args below meth c H locs cells slots Q (F0 m (pc + 3) ls (v :: rest))) : W p l e R s m args below meth c H locs cells slots Q (F0 m pc ls (.ref a :: rest)) := by
  obtain ⟨t, fs, he, hv⟩ := hf
  exact x_get C (hR.rdH he) hc hin k hk hlink hsame hv hdg kk
/-- .. by a nest mate -/
theorem x_getN (C : x_C p s m args meth c cc nL ret own D N0 gp) {ref Cn host : String} {T : u_T} {N ci index : Nat} {fs : List Value} (hrd : x_rd D s a (.inr (ci, fs)) H) (hc : x_cl[ci]? = some (Cn, T, N)) (hin : ∀ w ∈ u_ws Cn T N, w ∈ lw_all) (k : Nat) (hk : k < N) (hlink : va_Nw (Cond.fieldLinkNest own index ref (T k).2.1 (T k).2.2.1 host) s)
    (hsame : ∀ x, s.fieldFound? (T k).1 (T k).2.1 (T k).2.2.1 = some x → s.fieldFound? ref (T k).2.1 (T k).2.2.1 = some x) {v : Value} (hv : fs[k]? = some v) (hdg : decode cc pc = .ok (.getfield index, 3))
    (kk : W p l e R s m args below meth c H locs cells slots Q (F0 m (pc + 3) ls (v :: rest))) : W p l e R s m args below meth c H locs cells slots Q (F0 m pc ls (.ref a :: rest)) := by
  obtain ⟨⟨hx, hb, -, hown, hts⟩, -, -, hG, -⟩ := C
  obtain ⟨r, cell, h1, q1, q2, q3, q4, q5⟩ := hrd
  have hr : r = (Cn, T, N) := Option.some.inj (h1.symm.trans hc)
  subst hr
  obtain ⟨hS, hfc, kC, hkC, hkind⟩ := hG.1 ci _ hc
  obtain ⟨cf, kf, fi, f, hi, hsl⟩ := hS k hk
  refine va_Wgetf hx hb hown (va_Nw.use rfl hlink) (hsame _ hi) (u_facts hfc hkC (u_lays hts hin hk) hi).1 q1 q4 (v := v) ?_ rfl rfl hdg kk
  have hkl : k < fs.length := (List.getElem?_eq_some_iff.mp hv).1
  rw [hsl, q5 k hk hkl]
  simp [vp_V, hv]
theorem x_getHN (C : x_C p s m args meth c cc nL ret own D N0 gp) (hR : x_R D s N0 X h H) {ref Cn host : String} {T : u_T} {N ci index k : Nat} {v : Value} (hf : x_f h a ci k v) (hc : x_cl[ci]? = some (Cn, T, N)) (hin : ∀ w ∈ u_ws Cn T N, w ∈ lw_all) (hk : k < N) (hlink : va_Nw (Cond.fieldLinkNest own index ref (T k).2.1 (T k).2.2.1 host) s)
    (hsame : ∀ x, s.fieldFound? (T k).1 (T k).2.1 (T k).2.2.1 = some x → s.fieldFound? ref (T k).2.1 (T k).2.2.1 = some x) (hdg : decode cc pc = .ok (.getfield index, 3))
    (kk : W p l e R s m args below meth c H locs cells slots Q (F0 m (pc + 3) ls (v :: rest))) : W p l e R s m args below meth c H locs cells slots Q (F0 m pc ls (.ref a :: rest)) := by
  obtain ⟨t, fs, he, hv⟩ := hf
  exact x_getN C (hR.rdH he) hc hin k hk hlink hsame hv hdg kk
/-- what the tables say of a field, put together -/
theorem x_slots (hts : ∀ w ∈ lw_all, w.before args s = true) {Cn : String} {T : u_T} {N ci : Nat} {cC : ClassId} {iS : Nat → Nat} (hin : ∀ w ∈ u_ws Cn T N, w ∈ lw_all) {ty0 : Nat → FieldType} (hty : ∀ k, k < N → parseFieldDescriptor (T k).2.2.1 = some (ty0 k)) (hnm : ∀ a, a < N → ∀ b, b < N → a ≠ b → (T a).2.1 ≠ (T b).2.1) (hK : u_Kn s Cn T N cC iS) : ∀ x y, x < N → y < N → x ≠ y → iS x ≠ iS y := by
  intro x y hx hy hne
  obtain ⟨hS, -⟩ := hK
  obtain ⟨_, _, _, fa, hia, ea⟩ := hS x hx
  obtain ⟨_, _, _, fb, hib, eb⟩ := hS y hy
  rw [← ea, ← eb]
  refine u_apart (u_lays hts hin hx) (u_lays hts hin hy) hia hib ?_
  rw [(State.fieldFound?_type hia (hty x hx)).1, (State.fieldFound?_type hib (hty y hy)).1]
  exact hnm x hx y hy hne
theorem x_putN (C : x_C p s m args meth c cc nL ret own D N0 gp) {ref Cn host : String} {T : u_T} {N ci index : Nat} {fs : List Value} (hat : x_at D s a (.inr (ci, fs)) H) (hc : x_cl[ci]? = some (Cn, T, N)) (hin : ∀ w ∈ u_ws Cn T N, w ∈ lw_all) {ty0 : Nat → FieldType} (hty : ∀ k, k < N → parseFieldDescriptor (T k).2.2.1 = some (ty0 k)) (hnm : ∀ a, a < N → ∀ b, b < N → a ≠ b → (T a).2.1 ≠ (T b).2.1) (k : Nat) (hk : k < N) (hlink : va_Nw (Cond.fieldLinkNest own index ref (T k).2.1 (T k).2.2.1 host) s)
    (hsame : ∀ x, s.fieldFound? (T k).1 (T k).2.1 (T k).2.2.1 = some x → s.fieldFound? ref (T k).2.1 (T k).2.2.1 = some x) (hfin : (T k).2.2.2 = false) {v : Value} (hn : narrow (ty0 k) v = v) (hfit : fits (ty0 k) v = true) (hl : k < fs.length) (hdg : decode cc pc = .ok (.putfield index, 3))
    (kk : ∀ H1 : Heap, x_at D s a (.inr (ci, fs.set k v)) H1 → H1.size = H.size → (∀ q, q ≠ a → H1[q]? = H[q]?) → W p l e R s m args below meth c H1 (locs ++ [⟨a, D.2 ci k⟩]) cells slots Q (F0 m (pc + 3) ls rest)) : W p l e R s m args below meth c H locs cells slots Q (F0 m pc ls (v :: .ref a :: rest)) := by
  obtain ⟨⟨hx, hb, -, hown, hts⟩, -, -, hG, -⟩ := C
  obtain ⟨r, h1, cell, q1, q2, q3, q4⟩ := hat
  have hr : r = (Cn, T, N) := Option.some.inj (h1.symm.trans hc)
  subst hr
  have hap := x_slots (ci := ci) hts hin hty hnm (hG.1 ci _ hc)
  obtain ⟨hS, hfc, kC, hkC, hkind⟩ := hG.1 ci _ hc
  obtain ⟨cf, kf, fi, f, hi, hsl⟩ := hS k hk
  have hlay := hts _ (hin _ (u_in_lay hk))
  unfold u_lay at hlay
  rw [if_neg (by rw [hfin]; decide)] at hlay
  have hst := (u_facts hfc hkC (u_lays hts hin hk) hi).1
  have h6 := u_store hfc hkC hkind hlay hi (hty k hk) hn hfit
  refine va_WputK hx hb (f := f) hown (va_Nw.use rfl hlink) (hsame _ hi) hst (by rw [q2]; exact h6) q1 q3 (by rw [hsl]; exact k2_hasslot (q4 k hk)) rfl rfl hdg fun H' e1 e2 e3 => ?_
  rw [hsl] at e1 ⊢
  exact kk H' ⟨_, hc, t_OB.to (V := updV (vp_V fs) k v) ⟨_, e1, q2, q3, t_set q4 hap hk v⟩ (fun j _ => vp_updV_set hl v j)⟩ e2 e3
theorem x_putXN (C : x_C p s m args meth c cc nL ret own D N0 gp) (hR : x_R D s N0 X h H) (hS : va_S (x_A N0) s.heap H locs) (i : Nat) {ref Cn host : String} {T : u_T} {N ci index : Nat} {fs : List Value} (he : X[i]? = some (a, .inr (ci, fs))) (hc : x_cl[ci]? = some (Cn, T, N)) (hin : ∀ w ∈ u_ws Cn T N, w ∈ lw_all) {ty0 : Nat → FieldType} (hty : ∀ k, k < N → parseFieldDescriptor (T k).2.2.1 = some (ty0 k)) (hnm : ∀ a, a < N → ∀ b, b < N → a ≠ b → (T a).2.1 ≠ (T b).2.1) (k : Nat) (hk : k < N) (hlink : va_Nw (Cond.fieldLinkNest own index ref (T k).2.1 (T k).2.2.1 host) s)
    (hsame : ∀ x, s.fieldFound? (T k).1 (T k).2.1 (T k).2.2.1 = some x → s.fieldFound? ref (T k).2.1 (T k).2.2.1 = some x) (hfin : (T k).2.2.2 = false) {v : Value} (hn : narrow (ty0 k) v = v) (hfit : fits (ty0 k) v = true) (hl : k < fs.length) (hX : X.set i (a, .inr (ci, fs.set k v)) = X') (hdg : decode cc pc = .ok (.putfield index, 3))
    (kk : ∀ (H1 : Heap) (locs1 : List Loc), x_R D s N0 X' h H1 → va_S (x_A N0) s.heap H1 locs1 → W p l e R s m args below meth c H1 locs1 cells slots Q (F0 m (pc + 3) ls rest)) : W p l e R s m args below meth c H locs cells slots Q (F0 m pc ls (v :: .ref a :: rest)) :=
  x_putN C (hR.1 i _ he).1 hc hin hty hnm k hk hlink hsame hfin hn hfit hl hdg fun H1 hat hz oq => kk H1 _ (hR.putX i he hX hat oq) (hS.put hz oq (hR.1 i _ he).2.1)
theorem x_putHN (C : x_C p s m args meth c cc nL ret own D N0 gp) (hR : x_R D s N0 X h H) (hS : va_S (x_A N0) s.heap H locs) {t : Nat} {ref Cn host : String} {T : u_T} {N ci index : Nat} {fs : List Value} (he : h a = some (t, .inr (ci, fs))) (ht : t ≠ 1) (hc : x_cl[ci]? = some (Cn, T, N)) (hin : ∀ w ∈ u_ws Cn T N, w ∈ lw_all) {ty0 : Nat → FieldType} (hty : ∀ k, k < N → parseFieldDescriptor (T k).2.2.1 = some (ty0 k)) (hnm : ∀ a, a < N → ∀ b, b < N → a ≠ b → (T a).2.1 ≠ (T b).2.1) (k : Nat) (hk : k < N) (hlink : va_Nw (Cond.fieldLinkNest own index ref (T k).2.1 (T k).2.2.1 host) s)
    (hsame : ∀ x, s.fieldFound? (T k).1 (T k).2.1 (T k).2.2.1 = some x → s.fieldFound? ref (T k).2.1 (T k).2.2.1 = some x) (hfin : (T k).2.2.2 = false) {v : Value} (hn : narrow (ty0 k) v = v) (hfit : fits (ty0 k) v = true) (hl : k < fs.length) (hdg : decode cc pc = .ok (.putfield index, 3))
    (kk : ∀ (H1 : Heap) (locs1 : List Loc), x_R D s N0 X (x_hs h a t (.inr (ci, fs.set k v))) H1 → va_S (x_A N0) s.heap H1 locs1 → W p l e R s m args below meth c H1 locs1 cells slots Q (F0 m (pc + 3) ls rest)) : W p l e R s m args below meth c H locs cells slots Q (F0 m pc ls (v :: .ref a :: rest)) :=
  x_putN C (hR.atH he ht).2 hc hin hty hnm k hk hlink hsame hfin hn hfit hl hdg fun H1 hat hz oq => kk H1 _ (hR.putH he ht hat oq) (hS.put hz oq (hR.atH he ht).1)
/-- a final field, in the constructor of its class -/
theorem x_putHF (C : x_C p s m args meth c cc nL ret own D N0 gp) (hin2 : meth.name = "<init>") (hR : x_R D s N0 X h H) (hS : va_S (x_A N0) s.heap H locs) {t : Nat} {ref Cn : String} {T : u_T} {N ci index : Nat} {fs : List Value} (he : h a = some (t, .inr (ci, fs))) (ht : t ≠ 1) (hc : x_cl[ci]? = some (Cn, T, N)) (hin : ∀ w ∈ u_ws Cn T N, w ∈ lw_all) {ty0 : Nat → FieldType} (hty : ∀ k, k < N → parseFieldDescriptor (T k).2.2.1 = some (ty0 k)) (hnm : ∀ a, a < N → ∀ b, b < N → a ≠ b → (T a).2.1 ≠ (T b).2.1) (k : Nat) (hk : k < N) (hlink : Cond.fieldLink own index ref (T k).2.1 (T k).2.2.1 ∈ lw_all)
    (hsame : ∀ x, s.fieldFound? (T k).1 (T k).2.1 (T k).2.2.1 = some x → s.fieldFound? ref (T k).2.1 (T k).2.2.1 = some x) (hfin : (T k).2.2.2 = true) (hdecl : (T k).1 = own) {v : Value} (hn : narrow (ty0 k) v = v) (hfit : fits (ty0 k) v = true) (hl : k < fs.length) (hdg : decode cc pc = .ok (.putfield index, 3))
    (kk : ∀ (H1 : Heap) (locs1 : List Loc), x_R D s N0 X (x_hs h a t (.inr (ci, fs.set k v))) H1 → va_S (x_A N0) s.heap H1 locs1 → W p l e R s m args below meth c H1 locs1 cells slots Q (F0 m (pc + 3) ls rest)) : W p l e R s m args below meth c H locs cells slots Q (F0 m pc ls (v :: .ref a :: rest)) := by
  obtain ⟨hN, hat⟩ := hR.atH he ht
  obtain ⟨⟨hx, hb, -, hown, hts⟩, -, -, hG, -⟩ := C
  obtain ⟨r, h1, cell, q1, q2, q3, q4⟩ := hat
  have hr : r = (Cn, T, N) := Option.some.inj (h1.symm.trans hc)
  subst hr
  have hap := x_slots (ci := ci) hts hin hty hnm (hG.1 ci _ hc)
  obtain ⟨hSl, hfc, kC, hkC, hkind⟩ := hG.1 ci _ hc
  obtain ⟨cf, kf, fi, f, hi, hsl⟩ := hSl k hk
  have hlay := hts _ (hin _ (u_in_lay hk))
  unfold u_lay at hlay
  rw [if_pos hfin] at hlay
  have hst := (u_facts hfc hkC (u_lays hts hin hk) hi).1
  have hcf : m.cls = cf := by
    obtain ⟨_, _, c', _, _, _, -, -, hf', -, -, -, hown2, -⟩ := Cond.laysFinal_spec hlay
    have e1 : c' = cf := by have := hi.symm.trans hf'; simp at this; exact this.1.symm
    rw [hdecl] at hown2
    rw [← e1]; exact Option.some.inj (hown.symm.trans hown2)
  have h6 := u_fits hfc hkC hkind (Or.inr hlay) hi (hty k hk) hn hfit
  refine W.putFinK hx hb hown (hts _ hlink) (hsame _ hi) hst hcf hin2 (by rw [q2]; exact h6) q1 q3 (by rw [hsl]; exact k2_hasslot (q4 k hk)) rfl rfl hdg fun H' e1 e2 e3 => ?_
  rw [hsl] at e1 ⊢
  exact kk H' _ (hR.putH he ht ⟨_, hc, t_OB.to (V := updV (vp_V fs) k v) ⟨_, e1, q2, q3, t_set q4 hap hk v⟩ (fun j _ => vp_updV_set hl v j)⟩ e3) (hS.put e2 e3 hN)
/-- new C -/
theorem x_newH (C : x_C p s m args meth c cc nL ret own D N0 gp) (hR : x_R D s N0 X h H) (hS : va_S (x_A N0) s.heap H locs) {Cn : String} {T : u_T} {N ci index : Nat} (hc : x_cl[ci]? = some (Cn, T, N)) (hin : ∀ w ∈ u_ws Cn T N, w ∈ lw_all) {ty0 : Nat → FieldType} (hty : ∀ k, k < N → parseFieldDescriptor (T k).2.2.1 = some (ty0 k)) (hcl : Cond.classLink own index Cn ∈ lw_all) (hinst : Cond.instantiable Cn N ∈ lw_all) (hini : Cond.initialized Cn ∈ lw_all)
    {fs : List Value} (hfs : (List.range N).all (fun j => decide (defaultValue (ty0 j) = vp_V fs j)) = true) (hcells : cells + 1 ≤ R.cells) (hslots : slots + N ≤ R.slots) (hdg : decode cc pc = .ok (.new index, 3))
    (kk : ∀ (q : Nat) (H1 : Heap), h q = none → (∀ t : Nat, t ≠ 1 → x_R D s N0 X (x_hs h q t (.inr (ci, fs))) H1) → va_S (x_A N0) s.heap H1 locs → W p l e R s m args below meth c H1 locs (cells + 1) (slots + N) Q (F0 m (pc + 3) ls (.ref q :: rest))) : W p l e R s m args below meth c H locs cells slots Q (F0 m pc ls rest) := by
  obtain ⟨⟨hx, hb, -, hown, hts⟩, -, -, hG, hN⟩ := C
  have hKn := hG.1 ci _ hc
  refine W.newcK hx hb hown (hts _ hcl) (hts _ hinst) (hts _ hini) rfl hdg hcells hslots hKn.2.1 rfl fun H1 kC hkC e1 z1 o1 => ?_
  have hfs' : ∀ j, j < N → defaultValue (ty0 j) = vp_V fs j := fun j hj => of_decide_eq_true (List.all_eq_true.mp hfs j (List.mem_range.mpr hj))
  refine kk H.size H1 hR.fresh (fun t ht => hR.newH (Nat.le_trans hN hS.1) ht ⟨_, hc, (u_born ty0 hts hin hKn hkC e1 hty).to hfs'⟩ o1) ⟨Nat.le_trans hS.1 (by omega), fun x h1 h2 => (o1 x (Nat.lt_of_lt_of_le h1 hS.1)).trans (hS.2.1 x h1 h2), hS.2.2⟩
/-- new byte[n] -/
theorem x_newB (C : x_C p s m args meth c cc nL ret own D N0 gp) (hR : x_R D s N0 X h H) (hS : va_S (x_A N0) s.heap H locs) (harr : Cond.arrayClass .byte ∈ lw_all) {n : Int32} (hn : ¬ n < 0) (hbytes : n.toNatClampNeg ≤ 536870912) (hcells : cells + 1 ≤ R.cells) (hslots : slots + n.toNatClampNeg ≤ R.slots) (hdg : decode cc pc = .ok (.newarray .byte, 2))
    (kk : ∀ (q : Nat) (H1 : Heap), h q = none → (∀ t : Nat, t ≠ 1 → x_R D s N0 X (x_hs h q t (.inl (.byte, (n.toNatClampNeg, .inl (fun _ => 0))))) H1) → va_S (x_A N0) s.heap H1 locs → W p l e R s m args below meth c H1 locs (cells + 1) (slots + n.toNatClampNeg) Q (F0 m (pc + 2) ls (.ref q :: rest))) : W p l e R s m args below meth c H locs cells slots Q (F0 m pc ls (.int n :: rest)) := by
  obtain ⟨⟨hx, hb, -, hown, hts⟩, -, -, hG, hN⟩ := C
  refine va_newaK hx hb (atype := .byte) (hts _ harr) rfl hdg rfl hn rfl (by show n.toNatClampNeg * 1 ≤ _; omega) hcells hslots rfl fun H1 cA e1 z1 o1 hAr hNm => ?_
  refine kk H.size H1 hR.fresh (fun t ht => hR.newH (Nat.le_trans hN hS.1) ht ⟨cA, ⟨hAr, hNm⟩, e1⟩ o1) ⟨Nat.le_trans hS.1 (by omega), fun x h1 h2 => (o1 x (Nat.lt_of_lt_of_le h1 hS.1)).trans (hS.2.1 x h1 h2), hS.2.2⟩
/-- new Object[n] -/
theorem x_newQ (C : x_C p s m args meth c cc nL ret own D N0 gp) (hR : x_R D s N0 X h H) (hS : va_S (x_A N0) s.heap H locs) {index : Nat} (hclink : Cond.classLink own index "java/lang/Object" ∈ lw_all) (hover : Cond.arrayOver (.object "java/lang/Object") ∈ lw_tbl) {n : Int32} (hn : ¬ n < 0) (hbytes : n.toNatClampNeg * 4 ≤ 536870912) (hcells : cells + 1 ≤ R.cells) (hslots : slots + n.toNatClampNeg ≤ R.slots) (hdg : decode cc pc = .ok (.anewarray index, 3))
    (kk : ∀ (q : Nat) (H1 : Heap), h q = none → (∀ t : Nat, t ≠ 1 → x_R D s N0 X (x_hs h q t (.inl (.object "java/lang/Object", (n.toNatClampNeg, .inr (.inr (.inr (.inr (fun _ => none)))))))) H1) → va_S (x_A N0) s.heap H1 locs → W p l e R s m args below meth c H1 locs (cells + 1) (slots + n.toNatClampNeg) Q (F0 m (pc + 3) ls (.ref q :: rest))) : W p l e R s m args below meth c H locs cells slots Q (F0 m pc ls (.int n :: rest)) := by
  have hov := x_nest C hover rfl
  obtain ⟨⟨hx, hb, -, hown, hts⟩, -, -, hG, hN⟩ := C
  refine W.anew hx hb hown (hts _ hclink) (va_AO.use hov) rfl hdg rfl hn hbytes hcells hslots fun cA kA comp f1 f2 f3 f4 => ?_
  generalize hH1 : H.push ({ cls := cA, slots := Array.replicate n.toNatClampNeg .null, vm := .none } : Cell) = H1
  have z1 : H1.size = H.size + 1 := by rw [← hH1, Array.size_push]
  have e1 : H1[H.size]? = some (arrV cA n.toNatClampNeg (fun _ => .null)) := by rw [← hH1, Array.getElem?_push_size, ← arrV_new]
  have o1 : ∀ q : Nat, q < H.size → H1[q]? = H[q]? := fun q hq => by rw [← hH1, Array.getElem?_push, if_neg (Nat.ne_of_lt hq)]
  have hAr : ArrOfT s cA (.object "java/lang/Object") := fun N z => ⟨(fun k h => by cases h), kA, f2, comp, f3⟩
  refine kk H.size H1 hR.fresh (fun t ht => hR.newH (Nat.le_trans hN hS.1) ht ⟨cA, ⟨hAr, kA, comp, f2, f3, f4, f1⟩, e1⟩ o1) ⟨Nat.le_trans hS.1 (by omega), fun x h1 h2 => (o1 x (Nat.lt_of_lt_of_le h1 hS.1)).trans (hS.2.1 x h1 h2), hS.2.2⟩
theorem x_aald (C : x_C p s m args meth c cc nL ret own D N0 gp) {Cn : String} {n : Nat} {f : Nat → Option Nat} (hrd : x_rd D s a (.inl (.object Cn, (n, .inr (.inr (.inr (.inr f)))))) H) {i : Int32} (hi : vp_in i n) (hdg : decode cc pc = .ok (.aaload, 1))
    (kk : W p l e R s m args below meth c H locs cells slots Q (F0 m (pc + 1) ls (va_rf (f i.toNatClampNeg) :: rest))) : W p l e R s m args below meth c H locs cells slots Q (F0 m pc ls (.int i :: .ref a :: rest)) := by
  obtain ⟨⟨hx, hb, -, hown, hts⟩, -, -, hG, -⟩ := C
  obtain ⟨cell, h1, h2, h3, h4, -, h6⟩ := hrd
  exact W.aald (ty := .object Cn) hx hb h1 h2 rfl h3 (fun q => hi (q.imp id (fun z => Nat.le_trans h4 z))) (h6 _ (Nat.not_le.mp fun z => hi (Or.inr z))) rfl rfl hdg kk
theorem x_bastH (C : x_C p s m args meth c cc nL ret own D N0 gp) (hR : x_R D s N0 X h H) (hS : va_S (x_A N0) s.heap H locs) {t n : Nat} {f : Nat → Int32} (he : h a = some (t, .inl (.byte, (n, .inl f)))) (ht : t ≠ 1) {i x : Int32} (hi : vp_in i n) (hdg : decode cc pc = .ok (.bastore, 1))
    (kk : ∀ (H1 : Heap) (locs1 : List Loc), x_R D s N0 X (x_hs h a t (.inl (.byte, (n, .inl (upd f i.toNatClampNeg (vp_nar .byte x)))))) H1 → va_S (x_A N0) s.heap H1 locs1 → W p l e R s m args below meth c H1 locs1 cells slots Q (F0 m (pc + 1) ls rest)) : W p l e R s m args below meth c H locs cells slots Q (F0 m pc ls (.int x :: .int i :: .ref a :: rest)) := by
  obtain ⟨⟨hx, hb, -, hown, hts⟩, -, -, hG, -⟩ := C
  obtain ⟨hN, cA, hA, h1⟩ := hR.atH he ht
  refine W.bast hx hb h1 (hA.1 _ _) (fun q => by cases q) (by rw [x_cell, arrV_size]; exact hi) rfl rfl hdg fun H1 e1 z oq => ?_
  have e1 : H1[a]? = some ((vp_cell cA (n, .inl f)).setSlot i.toNatClampNeg (.int (vp_nar .byte x))) := e1
  exact kk H1 _ (hR.putH he ht ⟨cA, hA, e1.trans (congrArg some x_arr_st)⟩ oq) (hS.put z oq hN)
theorem x_arr_sq {cA : ClassId} {n k : Nat} {f : Nat → Option Nat} {x : Option Nat} : (vp_cell cA (n, .inr (.inr (.inr (.inr f))))).setSlot k (va_rf x) = vp_cell cA (n, .inr (.inr (.inr (.inr (va_up f k x))))) := by
  rw [vp_cell_q, vp_cell_q, arrV_store]
  congr 1
  funext q
  by_cases hq : q = k
  · subst hq
    simp [updV, va_up]
  · simp [updV, va_up, hq]
theorem x_any (C : x_C p s m args meth c cc nL ret own D N0 gp) (hR : x_R D s N0 X h H) {v : Nat} (hv : x_el h v) : va_Any "java/lang/Object" s H v := by
  obtain ⟨t, ci, fs, he, hci⟩ := hv
  have hca : ∀ r : vw_C, x_cl[ci]? = some r → va_Nw (.castable r.1 "java/lang/Object") s := by
    intro r hr
    rcases hci with rfl | rfl | rfl
    · cases hr; exact x_nest C q1595 rfl
    · cases hr; exact x_nest C q1598 rfl
    · cases hr; exact x_nest C q1603 rfl
  obtain ⟨⟨hx, hb, -, hown, hts⟩, -, -, hG, hN⟩ := C
  obtain ⟨r, cell, h1, q1, q2, q3, q4, q5⟩ := hR.rdH he
  obtain ⟨hSl, hfc, kC, hkC, hkind⟩ := hG.1 ci _ h1
  obtain ⟨c3, c4, hc3, hc4, hasg⟩ := Cond.castable_spec (va_Nw.use (A := args) rfl (hca r h1))
  refine ⟨cell, q1, q3, ⟨kC, by rw [q2]; exact hkC⟩, fun comp hcomp => ?_⟩
  cases hc3.symm.trans hfc
  cases hc4.symm.trans hcomp
  rw [q2]
  exact hasg
theorem x_aastH (C : x_C p s m args meth c cc nL ret own D N0 gp) (hR : x_R D s N0 X h H) (hS : va_S (x_A N0) s.heap H locs) {t n v : Nat} {f : Nat → Option Nat} (he : h a = some (t, .inl (.object "java/lang/Object", (n, .inr (.inr (.inr (.inr f))))))) (ht : t ≠ 1) {i : Int32} (hi : vp_in i n) (hv : x_el h v) (hdg : decode cc pc = .ok (.aastore, 1))
    (kk : ∀ (H1 : Heap) (locs1 : List Loc), x_R D s N0 X (x_hs h a t (.inl (.object "java/lang/Object", (n, .inr (.inr (.inr (.inr (va_up f i.toNatClampNeg (some v))))))))) H1 → va_S (x_A N0) s.heap H1 locs1 → W p l e R s m args below meth c H1 locs1 cells slots Q (F0 m (pc + 1) ls rest)) : W p l e R s m args below meth c H locs cells slots Q (F0 m pc ls (.ref v :: .int i :: .ref a :: rest)) := by
  obtain ⟨cellV, g1, g3, ⟨kC, hkC⟩, hasg⟩ := x_any C hR hv
  obtain ⟨⟨hx, hb, -, hown, hts⟩, -, -, hG, -⟩ := C
  obtain ⟨hN, cA, hA, h1⟩ := hR.atH he ht
  have hlt : i.toNatClampNeg < n := Nat.not_le.mp fun q => hi (Or.inr q)
  have h0 : ¬ i < 0 := fun q => hi (Or.inl q)
  obtain ⟨kA, comp, k1, k2, k3, -⟩ := hA.2
  obtain ⟨kE, hkE, -⟩ := Vm.findClass_spec k3
  refine W.aast hx hb h1 (fun q h => by cases h) (fun h => by cases h) k1 k2 rfl hkE ⟨h0, by rw [x_cell, arrV_size]; exact hlt⟩ g1 (fun q h => by rw [h] at g3; cases g3) hkC (hasg _ k3) rfl rfl hdg fun H1 e1 z oq => ?_
  exact kk H1 _ (hR.putH he ht ⟨cA, hA, e1.trans (congrArg some (x_arr_sq (x := some v)))⟩ oq) (hS.put z oq hN)
theorem x_aastN (C : x_C p s m args meth c cc nL ret own D N0 gp) (hR : x_R D s N0 X h H) (hS : va_S (x_A N0) s.heap H locs) {t n : Nat} {f : Nat → Option Nat} (he : h a = some (t, .inl (.object "java/lang/Object", (n, .inr (.inr (.inr (.inr f))))))) (ht : t ≠ 1) {i : Int32} (hi : vp_in i n) (hdg : decode cc pc = .ok (.aastore, 1))
    (kk : ∀ (H1 : Heap) (locs1 : List Loc), x_R D s N0 X (x_hs h a t (.inl (.object "java/lang/Object", (n, .inr (.inr (.inr (.inr (va_up f i.toNatClampNeg none)))))))) H1 → va_S (x_A N0) s.heap H1 locs1 → W p l e R s m args below meth c H1 locs1 cells slots Q (F0 m (pc + 1) ls rest)) : W p l e R s m args below meth c H locs cells slots Q (F0 m pc ls (.null :: .int i :: .ref a :: rest)) := by
  obtain ⟨⟨hx, hb, -, hown, hts⟩, -, -, hG, -⟩ := C
  obtain ⟨hN, cA, hA, h1⟩ := hR.atH he ht
  refine va_WaastN hx hb h1 (hA.1 _ _) (fun q => by cases q) (by rw [x_cell, arrV_size]; exact hi) rfl rfl hdg fun H1 e1 z oq => ?_
  exact kk H1 _ (hR.putH he ht ⟨cA, hA, e1.trans (congrArg some (x_arr_sq (x := none)))⟩ oq) (hS.put z oq hN)
/-- checkcast, instanceof of an object's own class -/
theorem x_castH (C : x_C p s m args meth c cc nL ret own D N0 gp) (hR : x_R D s N0 X h H) {Cn : String} {T : u_T} {N ci t index : Nat} {fs : List Value} (he : h a = some (t, .inr (ci, fs))) (hc : x_cl[ci]? = some (Cn, T, N)) (hlink : Cond.classLink own index Cn ∈ lw_all) (hdg : decode cc pc = .ok (.checkcast index, 3))
    (k : W p l e R s m args below meth c H locs cells slots Q (F0 m (pc + 3) ls (.ref a :: rest))) : W p l e R s m args below meth c H locs cells slots Q (F0 m pc ls (.ref a :: rest)) := by
  have hr := x_recv C (hR.rdH he) hc
  obtain ⟨⟨hx, hb, -, hown, hts⟩, -, -, hG, -⟩ := C
  exact va_castS hx hb hown (hts _ hlink) (hG.1 ci _ hc).2 hr hdg k
theorem x_instH (C : x_C p s m args meth c cc nL ret own D N0 gp) (hR : x_R D s N0 X h H) {Cn : String} {T : u_T} {N ci t index : Nat} {fs : List Value} (he : h a = some (t, .inr (ci, fs))) (hc : x_cl[ci]? = some (Cn, T, N)) (hlink : Cond.classLink own index Cn ∈ lw_all) (hdg : decode cc pc = .ok (.instanceof index, 3))
    (k : W p l e R s m args below meth c H locs cells slots Q (F0 m (pc + 3) ls (.int 1 :: rest))) : W p l e R s m args below meth c H locs cells slots Q (F0 m pc ls (.ref a :: rest)) := by
  have hr := x_recv C (hR.rdH he) hc
  obtain ⟨⟨hx, hb, -, hown, hts⟩, -, -, hG, -⟩ := C
  exact va_instS hx hb hown (hts _ hlink) (hG.1 ci _ hc).2 hr hdg k
theorem x_castB (C : x_C p s m args meth c cc nL ret own D N0 gp) (hR : x_R D s N0 X h H) {t index : Nat} {x : vp_A} (he : h a = some (t, .inl (.byte, x))) (ht : t ≠ 1) (hlink : Cond.classLink own index "[B" ∈ lw_all) (hdg : decode cc pc = .ok (.checkcast index, 3))
    (k : W p l e R s m args below meth c H locs cells slots Q (F0 m (pc + 3) ls (.ref a :: rest))) : W p l e R s m args below meth c H locs cells slots Q (F0 m pc ls (.ref a :: rest)) := by
  obtain ⟨⟨hx, hb, -, hown, hts⟩, -, -, hG, -⟩ := C
  obtain ⟨hN, cA, hA, h1⟩ := hR.atH he ht
  rw [x_cell] at h1
  intro T hT XX
  obtain ⟨vm', X', st⟩ := XX.checkcastYes hx hown (hts _ hlink) (by rw [hT]; exact h1) rfl (show s.vm.findClass "[B" = some cA from hA.2) (va_asg _ _) (g := F0 m pc ls (.ref a :: rest)) rfl rfl (by rw [hb]; exact hdg)
  obtain ⟨t, a1, b1⟩ := k (T.setVm vm') hT X'
  exact ⟨t, st t a1, b1⟩
theorem x_castQ (C : x_C p s m args meth c cc nL ret own D N0 gp) (hR : x_R D s N0 X h H) {t index : Nat} {x : vp_A} (he : h a = some (t, .inl (.object "java/lang/Object", x))) (ht : t ≠ 1) (hlink : Cond.classLink own index "[Ljava/lang/Object;" ∈ lw_all) (hdg : decode cc pc = .ok (.checkcast index, 3))
    (k : W p l e R s m args below meth c H locs cells slots Q (F0 m (pc + 3) ls (.ref a :: rest))) : W p l e R s m args below meth c H locs cells slots Q (F0 m pc ls (.ref a :: rest)) := by
  obtain ⟨⟨hx, hb, -, hown, hts⟩, -, -, hG, -⟩ := C
  obtain ⟨hN, cA, hA, h1⟩ := hR.atH he ht
  rw [x_cell] at h1
  obtain ⟨kA, comp, k1, k2, k3, k4⟩ := hA.2
  intro T hT XX
  obtain ⟨vm', X', st⟩ := XX.checkcastYes hx hown (hts _ hlink) (by rw [hT]; exact h1) rfl (show s.vm.findClass "[Ljava/lang/Object;" = some cA from k4) (va_asg _ _) (g := F0 m pc ls (.ref a :: rest)) rfl rfl (by rw [hb]; exact hdg)
  obtain ⟨t, a1, b1⟩ := k (T.setVm vm') hT X'
  exact ⟨t, st t a1, b1⟩
end XD
