/-! THE FRAME: the world of a run is a list X of fixed cells and a function h of cells that come and go (tag 1: foreign, never written). A contract takes the whole world in and hands the whole world out. -/
set_option maxRecDepth 100000
abbrev x_E : Type := (FieldType × vp_A) ⊕ (Nat × List Value)
abbrev x_X : Type := List (Nat × x_E)
abbrev x_H : Type := Nat → Option (Nat × x_E)
/-- the classes whose objects the worlds hold -/
abbrev x_cl : List vw_C := [(RX1, TX1, 27), (RX2, TX2, 3), (RX3, TX3, 2), (RX4, TX4, 5), (RX5, TX5, 9), (RX6, TX6, 55), (RX7, TX7, 3), (RJ2, TJ2, 3), (RJ8, TJ8, 4), (RJ9, TJ9, 4)]
/-- the cells that the run itself makes -/
def x_A (N0 : Nat) : Nat → Prop := fun q => N0 ≤ q
def x_val (x : vp_A) (j : Nat) : Value := match x.2 with
  | .inl f => .int (f j)
  | .inr (.inl f) => .long (f j)
  | .inr (.inr (.inl f)) => .float (f j)
  | .inr (.inr (.inr (.inl f))) => .double (f j)
  | .inr (.inr (.inr (.inr f))) => va_rf (f j)
theorem x_cell (cA : ClassId) (x : vp_A) : vp_cell cA x = arrV cA x.1 (x_val x) := by
  obtain ⟨n, f | f | f | f | f⟩ := x <;> rfl
/-- what may be read of a cell -/
def x_rd (D : va_G) (s : State) (a : Nat) (e : x_E) (H : Heap) : Prop := match e with
  | .inl q => ∃ cell : Cell, H[a]? = some cell ∧ s.isArrayOf cell q.1 ∧ cell.vm ≠ .unknown ∧ q.2.1 ≤ cell.slots.size ∧ cell.slots.size.toInt32 = Int32.ofNat q.2.1 ∧ ∀ j : Nat, j < q.2.1 → cell.slots[j]? = some (x_val q.2 j)
  | .inr o => ∃ (r : vw_C) (cell : Cell), x_cl[o.1]? = some r ∧ H[a]? = some cell ∧ cell.cls = D.1 o.1 ∧ cell.vm.isStatics = false ∧ cell.vm ≠ .unknown ∧ ∀ k : Nat, k < r.2.2 → k < o.2.length → cell.slots[D.2 o.1 k]? = some (vp_V o.2 k)
/-- a cell of the run's own -/
def x_at (D : va_G) (s : State) (a : Nat) (e : x_E) (H : Heap) : Prop := match e with
  | .inl q => ∃ cA : ClassId, (ArrOfT s cA q.1 ∧ va_RA s cA q.1) ∧ H[a]? = some (vp_cell cA q.2)
  | .inr o => ∃ r : vw_C, x_cl[o.1]? = some r ∧ t_OB a (D.1 o.1) r.2.2 (D.2 o.1) H (vp_V o.2)
theorem x_at.rd {D : va_G} {s : State} {a : Nat} {e : x_E} {H : Heap} (h : x_at D s a e H) : x_rd D s a e H := by
  cases e with
  | inl q =>
    obtain ⟨cA, ⟨h1, -⟩, h2⟩ := h
    rw [x_cell] at h2
    exact ⟨_, h2, h1 _ _, fun q => (by cases q), by rw [arrV_size]; exact Nat.le_refl _, by rw [arrV_size], fun j hj => arrV_read _ _ hj⟩
  | inr o =>
    obtain ⟨r, h1, cell, h2, h3, h4, h5⟩ := h
    exact ⟨r, cell, h1, h2, h3, by rw [h4]; rfl, by rw [h4]; exact fun q => (by cases q), fun k h6 _ => h5 k h6⟩
theorem x_at.lt {D : va_G} {s : State} {a : Nat} {e : x_E} {H : Heap} (h : x_at D s a e H) : a < H.size := by
  cases e with
  | inl q =>
    obtain ⟨cA, -, h2⟩ := h
    exact (Array.getElem?_eq_some_iff.mp h2).1
  | inr o =>
    obtain ⟨r, -, cell, h2, -⟩ := h
    exact (Array.getElem?_eq_some_iff.mp h2).1
theorem x_rd.lt {D : va_G} {s : State} {a : Nat} {e : x_E} {H : Heap} (h : x_rd D s a e H) : a < H.size := by
  cases e with
  | inl q =>
    obtain ⟨cell, h2, -⟩ := h
    exact (Array.getElem?_eq_some_iff.mp h2).1
  | inr o =>
    obtain ⟨r, cell, -, h2, -⟩ := h
    exact (Array.getElem?_eq_some_iff.mp h2).1
theorem x_at.kept {D : va_G} {s : State} {a : Nat} {e : x_E} {H H1 : Heap} (h : x_at D s a e H) (hq : H1[a]? = H[a]?) : x_at D s a e H1 := by
  cases e with
  | inl q =>
    obtain ⟨cA, h1, h2⟩ := h
    exact ⟨cA, h1, hq.trans h2⟩
  | inr o =>
    obtain ⟨r, h1, h2⟩ := h
    exact ⟨r, h1, h2.kept hq⟩
theorem x_rd.kept {D : va_G} {s : State} {a : Nat} {e : x_E} {H H1 : Heap} (h : x_rd D s a e H) (hq : H1[a]? = H[a]?) : x_rd D s a e H1 := by
  cases e with
  | inl q =>
    obtain ⟨cell, h2, h3⟩ := h
    exact ⟨cell, hq.trans h2, h3⟩
  | inr o =>
    obtain ⟨r, cell, h1, h2, h3⟩ := h
    exact ⟨r, cell, h1, hq.trans h2, h3⟩
theorem x_at.moved {D : va_G} {s U : State} {a : Nat} {e : x_E} {H : Heap} (hvm : s.vm.Alike U.vm) (h : x_at D s a e H) : x_at D U a e H := by
  cases e with
  | inl q =>
    obtain ⟨cA, ⟨h1, h2⟩, h3⟩ := h
    exact ⟨cA, ⟨arrOfT_moved hvm h1, h2.moved hvm⟩, h3⟩
  | inr o => exact h
theorem x_rd.moved {D : va_G} {s U : State} {a : Nat} {e : x_E} {H : Heap} (hvm : s.vm.Alike U.vm) (h : x_rd D s a e H) : x_rd D U a e H := by
  cases e with
  | inl q =>
    obtain ⟨cell, h2, h3, h4⟩ := h
    exact ⟨cell, h2, State.isArrayOf_alike hvm h3, h4⟩
  | inr o => exact h
/-- THE WORLD -/
def x_R (D : va_G) (s : State) (N0 : Nat) (X : x_X) (h : x_H) (H : Heap) : Prop :=
  (∀ (k : Nat) (q : Nat × x_E), X[k]? = some q → x_at D s q.1 q.2 H ∧ N0 ≤ q.1 ∧ h q.1 = none) ∧
  (∀ (i j : Nat) (p q : Nat × x_E), X[i]? = some p → X[j]? = some q → p.1 = q.1 → i = j) ∧
  (∀ (a t : Nat) (e : x_E), h a = some (t, e) → (t = 1 ∧ ¬ N0 ≤ a ∧ x_rd D s a e H) ∨ (t ≠ 1 ∧ N0 ≤ a ∧ x_at D s a e H))
theorem x_R.moved {D : va_G} {s U : State} {N0 : Nat} {X : x_X} {h : x_H} {H : Heap} (hvm : s.vm.Alike U.vm) (hR : x_R D s N0 X h H) : x_R D U N0 X h H :=
  ⟨fun k q hk => ⟨(hR.1 k q hk).1.moved hvm, (hR.1 k q hk).2⟩, hR.2.1, fun a t e ha => (hR.2.2 a t e ha).elim (fun z => Or.inl ⟨z.1, z.2.1, z.2.2.moved hvm⟩) (fun z => Or.inr ⟨z.1, z.2.1, z.2.2.moved hvm⟩)⟩
/-- a cell written, or made: x_hs h a t e -/
def x_hs (h : x_H) (a t : Nat) (e : x_E) : x_H := fun q => if q = a then some (t, e) else h q
theorem x_hs_self (h : x_H) (a t : Nat) (e : x_E) : x_hs h a t e a = some (t, e) := by simp [x_hs]
theorem x_hs_ne {h : x_H} {a t q : Nat} {e : x_E} (hq : q ≠ a) : x_hs h a t e q = h q := by simp [x_hs, hq]
theorem x_R.rdX {D : va_G} {s : State} {N0 : Nat} {X : x_X} {h : x_H} {H : Heap} (hR : x_R D s N0 X h H) (i : Nat) {a : Nat} {e : x_E} (he : X[i]? = some (a, e)) : x_rd D s a e H := (hR.1 i _ he).1.rd
theorem x_R.rdH {D : va_G} {s : State} {N0 : Nat} {X : x_X} {h : x_H} {H : Heap} (hR : x_R D s N0 X h H) {a t : Nat} {e : x_E} (he : h a = some (t, e)) : x_rd D s a e H := (hR.2.2 a t e he).elim (fun z => z.2.2) (fun z => z.2.2.rd)
theorem x_R.atH {D : va_G} {s : State} {N0 : Nat} {X : x_X} {h : x_H} {H : Heap} (hR : x_R D s N0 X h H) {a t : Nat} {e : x_E} (he : h a = some (t, e)) (ht : t ≠ 1) : N0 ≤ a ∧ x_at D s a e H := (hR.2.2 a t e he).elim (fun z => absurd z.1 ht) (fun z => z.2)
theorem x_R.putX {D : va_G} {s : State} {N0 : Nat} {X X' : x_X} {h : x_H} {H H1 : Heap} (hR : x_R D s N0 X h H) (i : Nat) {a : Nat} {e0 e : x_E} (he : X[i]? = some (a, e0)) (hX : X.set i (a, e) = X') (hat : x_at D s a e H1) (oq : ∀ q : Nat, q ≠ a → H1[q]? = H[q]?) : x_R D s N0 X' h H1 := by
  subst hX
  obtain ⟨r1, r2, r3⟩ := hR
  have hl := (List.getElem?_eq_some_iff.mp he).1
  have key : ∀ (k : Nat) (q : Nat × x_E), (X.set i (a, e))[k]? = some q → (k = i ∧ q = (a, e)) ∨ (k ≠ i ∧ X[k]? = some q) := by
    intro k q hk
    by_cases hki : k = i
    · subst hki
      rw [List.getElem?_set_self hl] at hk
      exact Or.inl ⟨rfl, (Option.some.inj hk).symm⟩
    · rw [List.getElem?_set_ne (Ne.symm hki)] at hk
      exact Or.inr ⟨hki, hk⟩
  refine ⟨fun k q hk => ?_, fun j k p q hj hk hpq => ?_, fun b t e' hb => ?_⟩
  · rcases key k q hk with ⟨-, rfl⟩ | ⟨hn, hk'⟩
    · exact ⟨hat, (r1 i _ he).2⟩
    · exact ⟨(r1 k q hk').1.kept (oq q.1 (fun z => hn (r2 k i q (a, e0) hk' he z))), (r1 k q hk').2⟩
  · rcases key j p hj with ⟨h1, rfl⟩ | ⟨h1, h2⟩ <;> rcases key k q hk with ⟨h3, rfl⟩ | ⟨h3, h4⟩
    · rw [h1, h3]
    · rw [h1]; exact r2 i k (a, e0) q he h4 hpq
    · rw [h3]; exact r2 j i p (a, e0) h2 he hpq
    · exact r2 j k p q h2 h4 hpq
  · have hba : b ≠ a := fun z => by
      have := (r1 i _ he).2.2
      rw [z] at hb
      rw [show h (a, e0).1 = h a from rfl, hb] at this
      cases this
    exact (r3 b t e' hb).elim (fun z => Or.inl ⟨z.1, z.2.1, z.2.2.kept (oq b hba)⟩) (fun z => Or.inr ⟨z.1, z.2.1, z.2.2.kept (oq b hba)⟩)
theorem x_R.putH {D : va_G} {s : State} {N0 : Nat} {X : x_X} {h : x_H} {H H1 : Heap} (hR : x_R D s N0 X h H) {a t : Nat} {e0 e : x_E} (he : h a = some (t, e0)) (ht : t ≠ 1) (hat : x_at D s a e H1) (oq : ∀ q : Nat, q ≠ a → H1[q]? = H[q]?) : x_R D s N0 X (x_hs h a t e) H1 := by
  obtain ⟨hN, -⟩ := hR.atH he ht
  obtain ⟨r1, r2, r3⟩ := hR
  refine ⟨fun k q hk => ?_, r2, fun b t' e' hb => ?_⟩
  · have hqa : q.1 ≠ a := fun z => by
      have := (r1 k q hk).2.2
      rw [z, he] at this
      cases this
    exact ⟨(r1 k q hk).1.kept (oq q.1 hqa), (r1 k q hk).2.1, by rw [x_hs_ne hqa]; exact (r1 k q hk).2.2⟩
  · by_cases hba : b = a
    · subst hba
      rw [x_hs_self] at hb
      cases hb
      exact Or.inr ⟨ht, hN, hat⟩
    · rw [x_hs_ne hba] at hb
      exact (r3 b t' e' hb).elim (fun z => Or.inl ⟨z.1, z.2.1, z.2.2.kept (oq b hba)⟩) (fun z => Or.inr ⟨z.1, z.2.1, z.2.2.kept (oq b hba)⟩)
theorem x_R.fresh {D : va_G} {s : State} {N0 : Nat} {X : x_X} {h : x_H} {H : Heap} (hR : x_R D s N0 X h H) : h H.size = none := by
  cases hq : h H.size with
  | none => rfl
  | some p =>
    obtain ⟨t, e⟩ := p
    exact absurd ((hR.rdH hq).lt) (Nat.lt_irrefl _)
theorem x_R.newH {D : va_G} {s : State} {N0 : Nat} {X : x_X} {h : x_H} {H H1 : Heap} (hR : x_R D s N0 X h H) (hN : N0 ≤ H.size) {t : Nat} {e : x_E} (ht : t ≠ 1) (hat : x_at D s H.size e H1) (oq : ∀ q : Nat, q < H.size → H1[q]? = H[q]?) : x_R D s N0 X (x_hs h H.size t e) H1 := by
  obtain ⟨r1, r2, r3⟩ := id hR
  refine ⟨fun k q hk => ?_, r2, fun b t' e' hb => ?_⟩
  · have hl := (r1 k q hk).1.lt
    have hqa : q.1 ≠ H.size := Nat.ne_of_lt hl
    exact ⟨(r1 k q hk).1.kept (oq q.1 hl), (r1 k q hk).2.1, by rw [x_hs_ne hqa]; exact (r1 k q hk).2.2⟩
  · by_cases hba : b = H.size
    · subst hba
      rw [x_hs_self] at hb
      cases hb
      exact Or.inr ⟨ht, hN, hat⟩
    · rw [x_hs_ne hba] at hb
      have hl : b < H.size := (hR.rdH hb).lt
      exact (r3 b t' e' hb).elim (fun z => Or.inl ⟨z.1, z.2.1, z.2.2.kept (oq b hl)⟩) (fun z => Or.inr ⟨z.1, z.2.1, z.2.2.kept (oq b hl)⟩)
/-- the fixed cells in another order, or fewer -/
theorem x_R.sub {D : va_G} {s : State} {N0 : Nat} {X X' : x_X} {h : x_H} {H : Heap} (hR : x_R D s N0 X h H) (is : List Nat) (hs : is.filterMap (fun i => X[i]?) = X') (hn : va_nd is = true) (hl : ∀ i ∈ is, i < X.length) : x_R D s N0 X' h H := by
  obtain ⟨r1, r2, r3⟩ := hR
  subst hs
  have e : is.filterMap (fun i => X[i]?) = is.map (fun i => X.getD i (0, .inr (0, []))) := by
    clear hn
    induction is with
    | nil => rfl
    | cons i l ih =>
      have hi := hl i List.mem_cons_self
      rw [List.filterMap_cons, List.map_cons, ih (fun j hj => hl j (List.mem_cons_of_mem _ hj))]
      simp [hi, List.getD_eq_getElem?_getD]
  have at' : ∀ (k : Nat) (q : Nat × x_E), (is.filterMap (fun i => X[i]?))[k]? = some q → ∃ i, is[k]? = some i ∧ X[i]? = some q := by
    intro k q hq
    rw [e, List.getElem?_map] at hq
    cases hi : is[k]? with
    | none => rw [hi] at hq; cases hq
    | some i =>
      rw [hi] at hq
      have hlt := hl i (List.mem_of_getElem? hi)
      refine ⟨i, rfl, ?_⟩
      rw [← hq]
      simp [hlt, List.getD_eq_getElem?_getD]
  refine ⟨fun k q hk => ?_, fun j k p q hj hk hpq => ?_, r3⟩
  · obtain ⟨i, -, hi⟩ := at' k q hk
    exact r1 i q hi
  · obtain ⟨i1, a1, b1⟩ := at' j p hj
    obtain ⟨i2, a2, b2⟩ := at' k q hk
    have := r2 i1 i2 p q b1 b2 hpq
    subst this
    exact va_nd_inj is hn j k i1 a1 a2
/-- what holds all through a run, whatever the world: the classes, the words that don't ride in lists, statics, String constants -/
def x_K (D : va_G) (U : State) : Prop := ∀ (c : Nat) (q : vw_C), x_cl[c]? = some q → u_Kn U q.1 q.2.1 q.2.2 (D.1 c) (D.2 c)
def x_isN : Cond → Bool
  | .fieldLinkNest .. => true
  | .methodLinkNest .. => true
  | .castable .. => true
  | .declares .. => true
  | .privateMethod .. => true
  | .arrayOver (.object _) => true
  | _ => false
def x_wd (U : State) : Prop := ∀ w ∈ lw_tbl, x_isN w = true → va_Nw w U
theorem x_wd.warm {s U : State} (hW : s.WarmedH U.vm) (h : x_wd s) : x_wd U := by
  intro w hw hn
  have h1 := h w hw hn
  match w, hn, h1 with
  | .fieldLinkNest _ _ _ _ _ _, _, h1 => exact va_Nw.warmF hW h1
  | .methodLinkNest _ _ _ _, _, h1 => exact va_Nw.warmM hW h1
  | .castable _ _, _, h1 => exact va_Nw.warmC hW h1
  | .declares _, _, h1 => exact va_Nw.warmD hW h1
  | .privateMethod x, _, h1 => exact va_tabs rfl (rfl : (s.setVm U.vm).vm = U.vm) (by rw [Cond.privateMethod_setVm hW.alike]; exact h1)
  | .arrayOver (.object _), _, h1 => exact va_AO.moved hW.alike h1
def x_strs : List (String × Nat × String × Nat) := [("PageServer", 261, ":m", 10), ("PageServer$Table", 27, ":m", 10), ("PageServer", 291, "GET", 11), ("PageServer$Table", 29, "GET", 11), ("PageServer", 289, "HEAD", 12), ("PageServer$Table", 38, "HEAD", 12), ("PageServer", 266, ":p", 13), ("PageServer$Table", 40, ":p", 13), ("PageServer$Table", 42, "/", 14), ("PageServer$Table", 44, "host", 15), ("PageServer$Table", 46, "", 16), ("PageServer$Reader", 65, "", 16), ("PageServer", 272, "length", 17), ("PageServer$Table", 48, "length", 17), ("PageServer$Table", 50, ":s", 18), ("PageServer$Table", 52, "200", 19), ("PageServer$Table", 54, "404", 20)]
/-- a static that may be null -/
def x_fm (gp : Nat → Nat) : Option Nat := if gp 4 = 0 then none else some (gp 3)
def x_st (N0 : Nat) (gp : Nat → Nat) (U : State) (H : Heap) : Prop :=
  va_Z "java/util/ArrayList" "DEFAULTCAPACITY_EMPTY_ELEMENTDATA" "[Ljava/lang/Object;" (.ref (gp 0)) (x_A N0) U H ∧
  va_Z "PageServer" "PREFACE" "[I" (.ref (gp 1)) (x_A N0) U H ∧
  va_Z "java/lang/String" "COMPACT_STRINGS" "Z" (.int 1) (x_A N0) U H ∧
  vx_Zq Bundle.tN "UNASSIGNED_STACK" Bundle.steD (x_A N0) U H ∧ vx_Zq Bundle.tN "SUPPRESSED_SENTINEL" Bundle.listD (x_A N0) U H ∧
  va_Z "jdk/internal/util/Preconditions" "SIOOBE_FORMATTER" "Ljava/util/function/BiFunction;" (va_rf (x_fm gp)) (x_A N0) U H
def x_G (D : va_G) (N0 : Nat) (gp : Nat → Nat) (U : State) : Prop :=
  x_K D U ∧ x_wd U ∧ x_st N0 gp U U.heap ∧ (∀ q ∈ x_strs, vk_R q.1 q.2.1 q.2.2.1 (gp q.2.2.2) U) ∧ va_Mi "[Ljava/lang/Object;" (gp 2) U ∧ va_Nc "java/lang/IllegalStateException" "java/lang/IllegalArgumentException" U
theorem x_K.moved {D : va_G} {u U : State} (hvm : u.vm.Alike U.vm) (h : x_K D u) : x_K D U := fun c q hq => u_Kn_moved hvm (h c q hq)
theorem x_G.at {D : va_G} {N0 : Nat} {gp : Nat → Nat} {s U : State} {H : Heap} {locs : List Loc} (h : x_G D N0 gp s) (hS : va_S (x_A N0) s.heap H locs) (hW : s.WarmedH U.vm) (hU : U.heap = H) : x_G D N0 gp U := by
  obtain ⟨h1, h2, ⟨z1, z2, z3, z4, z5, z6⟩, h4, h5, h6⟩ := h
  have hk : ∀ a : Nat, a < s.heap.size → ¬ x_A N0 a → U.heap[a]? = s.heap[a]? := fun a ha hn => by rw [hU]; exact hS.2.1 a ha hn
  exact ⟨h1.moved hW.alike, h2.warm hW, ⟨(va_Z.moved hW.alike z1).kept hk, (va_Z.moved hW.alike z2).kept hk, (va_Z.moved hW.alike z3).kept hk, (vx_Zq.moved hW.alike z4).kept hk, (vx_Zq.moved hW.alike z5).kept hk, (va_Z.moved hW.alike z6).kept hk⟩, fun q hq => (h4 q hq).warm hW, h5.moved hW.alike, h6.moved hW.alike⟩
/-- a contract's start -/
def x_Pc (D : va_G) (N0 : Nat) (gp : Nat → Nat) (X : x_X) (h : x_H) (av : List Value) : Array Value → State → Prop := fun v U => v = av.toArray ∧ x_G D N0 gp U ∧ N0 ≤ U.heap.size ∧ x_R D U N0 X h U.heap
/-- a contract's end -/
def x_Qc (D : va_G) (N0 : Nat) (Q : Option Value → x_X → x_H → Prop) : Array Value → State → Outcome → State → Prop := fun _ st oc t => (∃ (v : Option Value) (X' : x_X) (h' : x_H), oc = .returned v ∧ Q v X' h' ∧ x_R D t N0 X' h' t.heap) ∧ va_F (x_A N0) st t
/-- .. and where it throws -/
def x_XC (D : va_G) (N0 : Nat) (QX : String → x_X → x_H → Prop) : String → State → State → Prop := fun E st t => (∃ (X' : x_X) (h' : x_H), QX E X' h' ∧ x_R D t N0 X' h' t.heap) ∧ va_F (x_A N0) st t
theorem x_blind {D : va_G} {N0 : Nat} {gp : Nat → Nat} {X : x_X} {h : x_H} {av : List Value} : FrameBlind (x_Pc D N0 gp X h av) := fun a U g mk q =>
  ⟨q.1, q.2.1.at (U := U.calling g mk a) va_S.rf (State.WarmedH.refl U) rfl, q.2.2.1, q.2.2.2.moved (U := U.calling g mk a) (Vm.Alike.refl U.vm)⟩
/-- what a walk knows of its machine and method -/
def x_C (p : Program) (s : State) (m : MethodId) (args : Array Value) (meth : Method) (c : Code) (cc : ByteArray) (nL : Nat) (ret : Option FieldType) (own : String) (D : va_G) (N0 : Nat) (gp : Nat → Nat) : Prop :=
  CallFix p m c cc nL s args lw_all own ∧ meth.sig.returnType = ret ∧ meth.locks = false ∧ x_G D N0 gp s ∧ N0 ≤ s.heap.size
theorem x_start {l : Launch} {y : MethodName} {cc : ByteArray} {nL : Nat} {ret : Option FieldType} {own : String} {rm : Room} {D : va_G} {N0 : Nat} {gp : Nat → Nat} {X : x_X} {h : x_H} {As : List Value} {lv : List (Nat × Value)} {Q : Option Value → x_X → x_H → Prop} {mc ms : Nat}
    (hy : plainName y.cls = true) (ho : y.cls = own) (hn : (lg_sl As).length ≤ nL) (hlv : lv_args 0 As = lv)
    (body : ∀ (p : Program) (e : Env) (s : State) (m : MethodId) (below : List Frame) (meth : Method) (c : Code), x_C p s m As.toArray meth c cc nL ret own D N0 gp → x_R D s N0 X h s.heap → ∀ ls : Array Slot, lv_has ls nL lv → W p l e rm s m As.toArray below meth c s.heap [] 0 0 (MQ below (x_Qc D N0 Q) As.toArray s mc ms (x_A N0)) (F0 m 0 ls [])) :
    Met l y (ws_ y cc nL ret) rm (x_Pc D N0 gp X h As) (x_Qc D N0 Q) mc ms (x_A N0) := by
  subst ho
  subst hlv
  refine Met.ofW (cc := cc) (maxL := nL) (ret := ret) hy rfl ?_
  intro p e s m args below meth c s₁ B hml hv
  obtain ⟨rfl, hG, hN, hR⟩ := hv
  have hts := atoms_spec (ws := ws_ y cc nL ret) B.pre
  have hts : ∀ w ∈ lw_all, w.before _ s = true := fun w h => hts w (List.mem_cons_of_mem _ h)
  have hown : s.vm.findClass y.cls = some m.cls := findClass_of_methodNamed B.named
  rw [lg_entry_eq]
  exact body p e s m below meth c ⟨⟨B.exec, B.bytes, hml, hown, hts⟩, B.returns, B.notSynchronized, hG, hN⟩ hR _ (lv_entry As hn)
section XR
variable {p : Program} {l : Launch} {e : Env} {R : Room} {s : State} {m : MethodId} {args : Array Value} {below : List Frame} {meth : Method} {c : Code} {H : Heap} {locs : List Loc} {cells slots : Nat} {Q : State → Prop}
variable {cc : ByteArray} {nL : Nat} {ret : Option FieldType} {own : String} {D : va_G} {N0 : Nat} {gp : Nat → Nat} {X X' : x_X} {h : x_H} {pc : Nat} {ls : Array Slot} {rest : List Value} {a : Nat}
theorem x_get (C : x_C p s m args meth c cc nL ret own D N0 gp) {ref Cn : String} {T : u_T} {N ci index : Nat} {fs : List Value} (hrd : x_rd D s a (.inr (ci, fs)) H) (hc : x_cl[ci]? = some (Cn, T, N)) (hin : ∀ w ∈ u_ws Cn T N, w ∈ lw_all) (k : Nat) (hk : k < N) (hlink : Cond.fieldLink own index ref (T k).2.1 (T k).2.2.1 ∈ lw_all)
    (hsame : ∀ x, s.fieldFound? (T k).1 (T k).2.1 (T k).2.2.1 = some x → s.fieldFound? ref (T k).2.1 (T k).2.2.1 = some x) {v : Value} (hv : fs[k]? = some v) (hdg : decode cc pc = .ok (.getfield index, 3))
    (kk : W p l e R s m args below meth c H locs cells slots Q (F0 m (pc + 3) ls (v :: rest))) : W p l e R s m args below meth c H locs cells slots Q (F0 m pc ls (.ref a :: rest)) := by
  obtain ⟨⟨hx, hb, -, hown, hts⟩, -, -, hG, -⟩ := C
  obtain ⟨r, cell, h1, q1, q2, q3, q4, q5⟩ := hrd
  have hr : r = (Cn, T, N) := Option.some.inj (h1.symm.trans hc)
  subst hr
  obtain ⟨hS, hfc, kC, hkC, hkind⟩ := hG.1 ci _ hc
  obtain ⟨cf, kf, fi, f, hi, hsl⟩ := hS k hk
  refine W.getf hx hb hown (hts _ hlink) (hsame _ hi) (u_facts hfc hkC (u_lays hts hin hk) hi).1 q1 q4 (v := v) ?_ rfl rfl hdg kk
  have hkl : k < fs.length := (List.getElem?_eq_some_iff.mp hv).1
  rw [hsl, q5 k hk hkl]
  simp [vp_V, hv]
/-- the cell after a field was written -/
theorem x_put (C : x_C p s m args meth c cc nL ret own D N0 gp) {ref Cn : String} {T : u_T} {N ci index : Nat} {fs : List Value} (hat : x_at D s a (.inr (ci, fs)) H) (hc : x_cl[ci]? = some (Cn, T, N)) (hin : ∀ w ∈ u_ws Cn T N, w ∈ lw_all) {ty0 : Nat → FieldType} (hty : ∀ k, k < N → parseFieldDescriptor (T k).2.2.1 = some (ty0 k)) (hnm : ∀ a, a < N → ∀ b, b < N → a ≠ b → (T a).2.1 ≠ (T b).2.1) (k : Nat) (hk : k < N) (hlink : Cond.fieldLink own index ref (T k).2.1 (T k).2.2.1 ∈ lw_all)
    (hsame : ∀ x, s.fieldFound? (T k).1 (T k).2.1 (T k).2.2.1 = some x → s.fieldFound? ref (T k).2.1 (T k).2.2.1 = some x) (hfin : (T k).2.2.2 = false) {v : Value} (hn : narrow (ty0 k) v = v) (hfit : fits (ty0 k) v = true) (hl : k < fs.length) (hdg : decode cc pc = .ok (.putfield index, 3))
    (kk : ∀ H1 : Heap, x_at D s a (.inr (ci, fs.set k v)) H1 → H1.size = H.size → (∀ q, q ≠ a → H1[q]? = H[q]?) → W p l e R s m args below meth c H1 (locs ++ [⟨a, D.2 ci k⟩]) cells slots Q (F0 m (pc + 3) ls rest)) : W p l e R s m args below meth c H locs cells slots Q (F0 m pc ls (v :: .ref a :: rest)) := by
  obtain ⟨⟨hx, hb, -, hown, hts⟩, -, -, hG, -⟩ := C
  obtain ⟨r, h1, cell, q1, q2, q3, q4⟩ := hat
  have hr : r = (Cn, T, N) := Option.some.inj (h1.symm.trans hc)
  subst hr
  obtain ⟨hS, hfc, kC, hkC, hkind⟩ := hG.1 ci _ hc
  have hap : ∀ x y, x < N → y < N → x ≠ y → (D.2 ci) x ≠ (D.2 ci) y := by
    intro x y hx hy hne
    obtain ⟨_, _, _, fa, hia, ea⟩ := hS x hx
    obtain ⟨_, _, _, fb, hib, eb⟩ := hS y hy
    rw [← ea, ← eb]
    refine u_apart (u_lays hts hin hx) (u_lays hts hin hy) hia hib ?_
    rw [(State.fieldFound?_type hia (hty x hx)).1, (State.fieldFound?_type hib (hty y hy)).1]
    exact hnm x hx y hy hne
  obtain ⟨cf, kf, fi, f, hi, hsl⟩ := hS k hk
  have hlay := hts _ (hin _ (u_in_lay hk))
  unfold u_lay at hlay
  rw [if_neg (by rw [hfin]; decide)] at hlay
  have hst := (u_facts hfc hkC (u_lays hts hin hk) hi).1
  have h6 := u_store hfc hkC hkind hlay hi (hty k hk) hn hfit
  refine W.putK hx hb (f := f) ⟨hown, hts _ hlink, ⟨_, _, _, hsame _ hi⟩, hst⟩ (by rw [q2]; exact h6) q1 q3 (by rw [hsl]; exact k2_hasslot (q4 k hk)) rfl rfl hdg fun H' e1 e2 e3 => ?_
  rw [hsl] at e1 ⊢
  exact kk H' ⟨_, hc, t_OB.to (V := updV (vp_V fs) k v) ⟨_, e1, q2, q3, t_set q4 hap hk v⟩ (fun j _ => vp_updV_set hl v j)⟩ e2 e3
theorem x_putX (C : x_C p s m args meth c cc nL ret own D N0 gp) (hR : x_R D s N0 X h H) (hS : va_S (x_A N0) s.heap H locs) (i : Nat) {ref Cn : String} {T : u_T} {N ci index : Nat} {fs : List Value} (he : X[i]? = some (a, .inr (ci, fs))) (hc : x_cl[ci]? = some (Cn, T, N)) (hin : ∀ w ∈ u_ws Cn T N, w ∈ lw_all) {ty0 : Nat → FieldType} (hty : ∀ k, k < N → parseFieldDescriptor (T k).2.2.1 = some (ty0 k)) (hnm : ∀ a, a < N → ∀ b, b < N → a ≠ b → (T a).2.1 ≠ (T b).2.1) (k : Nat) (hk : k < N) (hlink : Cond.fieldLink own index ref (T k).2.1 (T k).2.2.1 ∈ lw_all)
    (hsame : ∀ x, s.fieldFound? (T k).1 (T k).2.1 (T k).2.2.1 = some x → s.fieldFound? ref (T k).2.1 (T k).2.2.1 = some x) (hfin : (T k).2.2.2 = false) {v : Value} (hn : narrow (ty0 k) v = v) (hfit : fits (ty0 k) v = true) (hl : k < fs.length) (hX : X.set i (a, .inr (ci, fs.set k v)) = X') (hdg : decode cc pc = .ok (.putfield index, 3))
    (kk : ∀ (H1 : Heap) (locs1 : List Loc), x_R D s N0 X' h H1 → va_S (x_A N0) s.heap H1 locs1 → W p l e R s m args below meth c H1 locs1 cells slots Q (F0 m (pc + 3) ls rest)) : W p l e R s m args below meth c H locs cells slots Q (F0 m pc ls (v :: .ref a :: rest)) :=
  x_put C (hR.1 i _ he).1 hc hin hty hnm k hk hlink hsame hfin hn hfit hl hdg fun H1 hat hz oq => kk H1 _ (hR.putX i he hX hat oq) (hS.put hz oq (hR.1 i _ he).2.1)
theorem x_putH (C : x_C p s m args meth c cc nL ret own D N0 gp) (hR : x_R D s N0 X h H) (hS : va_S (x_A N0) s.heap H locs) {t : Nat} {ref Cn : String} {T : u_T} {N ci index : Nat} {fs : List Value} (he : h a = some (t, .inr (ci, fs))) (ht : t ≠ 1) (hc : x_cl[ci]? = some (Cn, T, N)) (hin : ∀ w ∈ u_ws Cn T N, w ∈ lw_all) {ty0 : Nat → FieldType} (hty : ∀ k, k < N → parseFieldDescriptor (T k).2.2.1 = some (ty0 k)) (hnm : ∀ a, a < N → ∀ b, b < N → a ≠ b → (T a).2.1 ≠ (T b).2.1) (k : Nat) (hk : k < N) (hlink : Cond.fieldLink own index ref (T k).2.1 (T k).2.2.1 ∈ lw_all)
    (hsame : ∀ x, s.fieldFound? (T k).1 (T k).2.1 (T k).2.2.1 = some x → s.fieldFound? ref (T k).2.1 (T k).2.2.1 = some x) (hfin : (T k).2.2.2 = false) {v : Value} (hn : narrow (ty0 k) v = v) (hfit : fits (ty0 k) v = true) (hl : k < fs.length) (hdg : decode cc pc = .ok (.putfield index, 3))
    (kk : ∀ (H1 : Heap) (locs1 : List Loc), x_R D s N0 X (x_hs h a t (.inr (ci, fs.set k v))) H1 → va_S (x_A N0) s.heap H1 locs1 → W p l e R s m args below meth c H1 locs1 cells slots Q (F0 m (pc + 3) ls rest)) : W p l e R s m args below meth c H locs cells slots Q (F0 m pc ls (v :: .ref a :: rest)) :=
  x_put C (hR.atH he ht).2 hc hin hty hnm k hk hlink hsame hfin hn hfit hl hdg fun H1 hat hz oq => kk H1 _ (hR.putH he ht hat oq) (hS.put hz oq (hR.atH he ht).1)
theorem x_iald (C : x_C p s m args meth c cc nL ret own D N0 gp) {n : Nat} {f : Nat → Int32} (hrd : x_rd D s a (.inl (.int, (n, .inl f))) H) {i : Int32} (hi : vp_in i n) (hdg : decode cc pc = .ok (.iaload, 1))
    (kk : W p l e R s m args below meth c H locs cells slots Q (F0 m (pc + 1) ls (.int (f i.toNatClampNeg) :: rest))) : W p l e R s m args below meth c H locs cells slots Q (F0 m pc ls (.int i :: .ref a :: rest)) := by
  obtain ⟨⟨hx, hb, -, hown, hts⟩, -, -, hG, -⟩ := C
  obtain ⟨cell, h1, h2, h3, h4, -, h6⟩ := hrd
  exact W.iald hx hb h1 h2 h3 (fun q => hi (q.imp id (fun z => Nat.le_trans h4 z))) (h6 _ (Nat.not_le.mp fun z => hi (Or.inr z))) rfl rfl hdg kk
theorem x_bald (C : x_C p s m args meth c cc nL ret own D N0 gp) {n : Nat} {f : Nat → Int32} (hrd : x_rd D s a (.inl (.byte, (n, .inl f))) H) {i : Int32} (hi : vp_in i n) (hdg : decode cc pc = .ok (.baload, 1))
    (kk : W p l e R s m args below meth c H locs cells slots Q (F0 m (pc + 1) ls (.int (f i.toNatClampNeg) :: rest))) : W p l e R s m args below meth c H locs cells slots Q (F0 m pc ls (.int i :: .ref a :: rest)) := by
  obtain ⟨⟨hx, hb, -, hown, hts⟩, -, -, hG, -⟩ := C
  obtain ⟨cell, h1, h2, h3, h4, -, h6⟩ := hrd
  exact W.bald hx hb h1 h2 h3 (fun q => hi (q.imp id (fun z => Nat.le_trans h4 z))) (h6 _ (Nat.not_le.mp fun z => hi (Or.inr z))) rfl rfl hdg kk
theorem x_zald (C : x_C p s m args meth c cc nL ret own D N0 gp) {n : Nat} {f : Nat → Int32} (hrd : x_rd D s a (.inl (.boolean, (n, .inl f))) H) {i : Int32} (hi : vp_in i n) (hdg : decode cc pc = .ok (.baload, 1))
    (kk : W p l e R s m args below meth c H locs cells slots Q (F0 m (pc + 1) ls (.int (f i.toNatClampNeg) :: rest))) : W p l e R s m args below meth c H locs cells slots Q (F0 m pc ls (.int i :: .ref a :: rest)) := by
  obtain ⟨⟨hx, hb, -, hown, hts⟩, -, -, hG, -⟩ := C
  obtain ⟨cell, h1, h2, h3, h4, -, h6⟩ := hrd
  exact W.zald hx hb h1 h2 h3 (fun q => hi (q.imp id (fun z => Nat.le_trans h4 z))) (h6 _ (Nat.not_le.mp fun z => hi (Or.inr z))) rfl rfl hdg kk
theorem x_cald (C : x_C p s m args meth c cc nL ret own D N0 gp) {n : Nat} {f : Nat → Int32} (hrd : x_rd D s a (.inl (.char, (n, .inl f))) H) {i : Int32} (hi : vp_in i n) (hdg : decode cc pc = .ok (.caload, 1))
    (kk : W p l e R s m args below meth c H locs cells slots Q (F0 m (pc + 1) ls (.int (f i.toNatClampNeg) :: rest))) : W p l e R s m args below meth c H locs cells slots Q (F0 m pc ls (.int i :: .ref a :: rest)) := by
  obtain ⟨⟨hx, hb, -, hown, hts⟩, -, -, hG, -⟩ := C
  obtain ⟨cell, h1, h2, h3, h4, -, h6⟩ := hrd
  exact W.cald hx hb h1 h2 h3 (fun q => hi (q.imp id (fun z => Nat.le_trans h4 z))) (h6 _ (Nat.not_le.mp fun z => hi (Or.inr z))) rfl rfl hdg kk
theorem x_alen (C : x_C p s m args meth c cc nL ret own D N0 gp) {ty : FieldType} {x : vp_A} (hrd : x_rd D s a (.inl (ty, x)) H) (hdg : decode cc pc = .ok (.arraylength, 1))
    (kk : W p l e R s m args below meth c H locs cells slots Q (F0 m (pc + 1) ls (.int (nI x.1) :: rest))) : W p l e R s m args below meth c H locs cells slots Q (F0 m pc ls (.ref a :: rest)) := by
  obtain ⟨⟨hx, hb, -, hown, hts⟩, -, -, hG, -⟩ := C
  obtain ⟨cell, h1, h2, h3, h4, h5, h6⟩ := hrd
  exact W.alen (n := nI x.1) hx hb h1 h2 h5 rfl rfl hdg kk
/-- int arrays written: the cell after -/
theorem x_arr_st {cA : ClassId} {n k : Nat} {f : Nat → Int32} {x : Int32} : (vp_cell cA (n, .inl f)).setSlot k (.int x) = vp_cell cA (n, .inl (upd f k x)) := by
  rw [vp_cell_i, vp_cell_i, arrV_store]
  congr 1
  funext q
  by_cases hq : q = k
  · subst hq
    simp [updV, upd]
  · simp [updV, upd, hq]
theorem x_iastX (C : x_C p s m args meth c cc nL ret own D N0 gp) (hR : x_R D s N0 X h H) (hS : va_S (x_A N0) s.heap H locs) (k : Nat) {n : Nat} {f : Nat → Int32} (he : X[k]? = some (a, .inl (.int, (n, .inl f)))) {i x : Int32} (hi : vp_in i n) (hX : X.set k (a, .inl (.int, (n, .inl (upd f i.toNatClampNeg x)))) = X') (hdg : decode cc pc = .ok (.iastore, 1))
    (kk : ∀ (H1 : Heap) (locs1 : List Loc), x_R D s N0 X' h H1 → va_S (x_A N0) s.heap H1 locs1 → W p l e R s m args below meth c H1 locs1 cells slots Q (F0 m (pc + 1) ls rest)) : W p l e R s m args below meth c H locs cells slots Q (F0 m pc ls (.int x :: .int i :: .ref a :: rest)) := by
  obtain ⟨⟨hx, hb, -, hown, hts⟩, -, -, hG, -⟩ := C
  obtain ⟨⟨cA, hA, h1⟩, hN, -⟩ := hR.1 k _ he
  refine W.iast hx hb h1 (hA.1 _ _) (fun q => by cases q) (by rw [x_cell, arrV_size]; exact hi) rfl rfl hdg fun H1 e1 z oq => ?_
  exact kk H1 _ (hR.putX k he hX ⟨cA, hA, e1.trans (congrArg some x_arr_st)⟩ oq) (hS.put z oq hN)
theorem x_zastX (C : x_C p s m args meth c cc nL ret own D N0 gp) (hR : x_R D s N0 X h H) (hS : va_S (x_A N0) s.heap H locs) (k : Nat) {n : Nat} {f : Nat → Int32} (he : X[k]? = some (a, .inl (.boolean, (n, .inl f)))) {i x : Int32} (hi : vp_in i n) (hn : narrow .boolean (.int x) = .int x) (hX : X.set k (a, .inl (.boolean, (n, .inl (upd f i.toNatClampNeg x)))) = X') (hdg : decode cc pc = .ok (.bastore, 1))
    (kk : ∀ (H1 : Heap) (locs1 : List Loc), x_R D s N0 X' h H1 → va_S (x_A N0) s.heap H1 locs1 → W p l e R s m args below meth c H1 locs1 cells slots Q (F0 m (pc + 1) ls rest)) : W p l e R s m args below meth c H locs cells slots Q (F0 m pc ls (.int x :: .int i :: .ref a :: rest)) := by
  obtain ⟨⟨hx, hb, -, hown, hts⟩, -, -, hG, -⟩ := C
  obtain ⟨⟨cA, hA, h1⟩, hN, -⟩ := hR.1 k _ he
  refine W.zast hx hb h1 (hA.1 _ _) (fun q => by cases q) (by rw [x_cell, arrV_size]; exact hi) rfl rfl hdg fun H1 e1 z oq => ?_
  rw [hn] at e1
  exact kk H1 _ (hR.putX k he hX ⟨cA, hA, e1.trans (congrArg some x_arr_st)⟩ oq) (hS.put z oq hN)
theorem x_castX (C : x_C p s m args meth c cc nL ret own D N0 gp) (hR : x_R D s N0 X h H) (hS : va_S (x_A N0) s.heap H locs) (k : Nat) {n : Nat} {f : Nat → Int32} (he : X[k]? = some (a, .inl (.char, (n, .inl f)))) {i x : Int32} (hi : vp_in i n) (hX : X.set k (a, .inl (.char, (n, .inl (upd f i.toNatClampNeg (vp_nar .char x))))) = X') (hdg : decode cc pc = .ok (.castore, 1))
    (kk : ∀ (H1 : Heap) (locs1 : List Loc), x_R D s N0 X' h H1 → va_S (x_A N0) s.heap H1 locs1 → W p l e R s m args below meth c H1 locs1 cells slots Q (F0 m (pc + 1) ls rest)) : W p l e R s m args below meth c H locs cells slots Q (F0 m pc ls (.int x :: .int i :: .ref a :: rest)) := by
  obtain ⟨⟨hx, hb, -, hown, hts⟩, -, -, hG, -⟩ := C
  obtain ⟨⟨cA, hA, h1⟩, hN, -⟩ := hR.1 k _ he
  refine W.cast hx hb h1 (hA.1 _ _) (fun q => by cases q) (by rw [x_cell, arrV_size]; exact hi) rfl rfl hdg fun H1 e1 z oq => ?_
  have e1 : H1[a]? = some ((vp_cell cA (n, .inl f)).setSlot i.toNatClampNeg (.int (vp_nar .char x))) := e1
  exact kk H1 _ (hR.putX k he hX ⟨cA, hA, e1.trans (congrArg some x_arr_st)⟩ oq) (hS.put z oq hN)
theorem x_bastX (C : x_C p s m args meth c cc nL ret own D N0 gp) (hR : x_R D s N0 X h H) (hS : va_S (x_A N0) s.heap H locs) (k : Nat) {n : Nat} {f : Nat → Int32} (he : X[k]? = some (a, .inl (.byte, (n, .inl f)))) {i x : Int32} (hi : vp_in i n) (hX : X.set k (a, .inl (.byte, (n, .inl (upd f i.toNatClampNeg (vp_nar .byte x))))) = X') (hdg : decode cc pc = .ok (.bastore, 1))
    (kk : ∀ (H1 : Heap) (locs1 : List Loc), x_R D s N0 X' h H1 → va_S (x_A N0) s.heap H1 locs1 → W p l e R s m args below meth c H1 locs1 cells slots Q (F0 m (pc + 1) ls rest)) : W p l e R s m args below meth c H locs cells slots Q (F0 m pc ls (.int x :: .int i :: .ref a :: rest)) := by
  obtain ⟨⟨hx, hb, -, hown, hts⟩, -, -, hG, -⟩ := C
  obtain ⟨⟨cA, hA, h1⟩, hN, -⟩ := hR.1 k _ he
  refine W.bast hx hb h1 (hA.1 _ _) (fun q => by cases q) (by rw [x_cell, arrV_size]; exact hi) rfl rfl hdg fun H1 e1 z oq => ?_
  have e1 : H1[a]? = some ((vp_cell cA (n, .inl f)).setSlot i.toNatClampNeg (.int (vp_nar .byte x))) := e1
  exact kk H1 _ (hR.putX k he hX ⟨cA, hA, e1.trans (congrArg some x_arr_st)⟩ oq) (hS.put z oq hN)
/-- a call has come back -/
theorem x_call {Qv : Option Value → x_X → x_H → Prop} {mc ms : Nat} {av : Array Value} {st0 : List Value} (hr : va_Run p l e R s m args below meth c H locs cells slots mc ms (F0 m pc ls st0) rest (x_Qc D N0 Qv av) (x_A N0)) (hS : va_S (x_A N0) s.heap H locs)
    (kk : ∀ (v : Option Value) (X1 : x_X) (h1 : x_H) (H1 : Heap) (locs1 : List Loc), Qv v X1 h1 → x_R D s N0 X1 h1 H1 → va_S (x_A N0) s.heap H1 locs1 → W p l e R s m args below meth c H1 locs1 (cells + mc) (slots + ms) Q (F0 m (pc + 3) ls (v.toList ++ rest))) : W p l e R s m args below meth c H locs cells slots Q (F0 m pc ls st0) := by
  intro T hT XX
  obtain ⟨v, st₀, t, T', L, h0, X', hL, e1, e2, ⟨⟨v', X1, h1, hv, hq, hR⟩, hz, hk⟩, st⟩ := hr T hT XX
  cases hv
  rw [h0] at hz hk
  have hal : s.vm.Alike t.vm := by rw [← e2]; exact X'.warmed.alike
  obtain ⟨t2, a1, b1⟩ := kk v X1 h1 T'.heap (locs ++ L) hq (by rw [e1]; exact hR.moved hal.symm)
    ⟨Nat.le_trans hS.1 (by rw [e1]; exact hz), fun q h1 h2 => by rw [e1, hk q (Nat.lt_of_lt_of_le h1 hS.1) h2]; exact hS.2.1 q h1 h2, fun q hq => by
      rcases List.mem_append.mp hq with h | h
      · exact hS.2.2 q h
      · exact hL q h⟩ T' rfl X'
  exact ⟨t2, st t2 a1, b1⟩
theorem x_recv (C : x_C p s m args meth c cc nL ret own D N0 gp) {ci : Nat} {q : vw_C} {fs : List Value} (hrd : x_rd D s a (.inr (ci, fs)) H) (hc : x_cl[ci]? = some q) : ∃ cell : Cell, H[a]? = some cell ∧ cell.vm.isStatics = false ∧ s.vm.findClass q.1 = some cell.cls := by
  obtain ⟨-, -, -, hG, -⟩ := C
  obtain ⟨r, cell, h1, q1, q2, q3, q4, q5⟩ := hrd
  obtain ⟨hS, hfc, -⟩ := hG.1 ci _ hc
  exact ⟨cell, q1, q3, by rw [q2]; exact hfc⟩
theorem x_pre (C : x_C p s m args meth c cc nL ret own D N0 gp) (hR : x_R D s N0 X h H) (hS : va_S (x_A N0) s.heap H locs) (av : List Value) : ∀ U : State, U.heap = H → s.WarmedH U.vm → x_Pc D N0 gp X h av av.toArray U := by
  obtain ⟨-, -, -, hG, hN⟩ := C
  intro U hU hW
  exact ⟨rfl, hG.at hS hW hU, by rw [hU]; exact Nat.le_trans hN hS.1, by rw [hU]; exact hR.moved hW.alike⟩
theorem x_runV (C : x_C p s m args meth c cc nL ret own D N0 gp) (hR : x_R D s N0 X h H) (hS : va_S (x_A N0) s.heap H locs) {y : MethodName} {bytes : ByteArray} {maxL mc ms n index : Nat} {rt : Option FieldType} {rm : Room} {Qv : Option Value → x_X → x_H → Prop} {Cn : String} {b : Nat} {As st0 : List Value}
    (hM : Met l y (ws_ y bytes maxL rt) rm (x_Pc D N0 gp X h (.ref b :: As)) (x_Qc D N0 Qv) mc ms (x_A N0)) (hg : GoodIn lw_all (wsV own index Cn y (ws_ y bytes maxL rt))) (hrc : rm.cells = mc) (hrs : rm.slots = ms) (hd : y.cls = Cn ∧ y.cls ≠ "java/lang/invoke/MethodHandle" ∧ y.cls ≠ "java/lang/invoke/VarHandle" ∧ (parseMethodDescriptor y.desc).map (fun d => d.parameters.length) = some n) (hrm : rm.frames + 1 ≤ R.frames ∧ 8 + (maxL + 11) + rm.locals ≤ R.locals)
    (hv : ∃ cell : Cell, H[b]? = some cell ∧ cell.vm.isStatics = false ∧ s.vm.findClass Cn = some cell.cls) (hn : As.length = n) (hl : ls.size = nL) (hst : st0 = As.reverse ++ .ref b :: rest) (hw : (rest.map fun v => v.category).sum ≤ 8) (hdg : decode cc pc = .ok (.invokevirtual index, 3)) (hf : cells + mc ≤ R.cells ∧ slots + ms ≤ R.slots) :
    va_Run p l e R s m args below meth c H locs cells slots mc ms (F0 m pc ls st0) rest (x_Qc D N0 Qv (Value.ref b :: As).toArray) (x_A N0) :=
  va_runV C.1 hM (cwV n C.1.2.2.2.2 hg rfl hrc hrs hd hrm) ⟨x_blind, hv, x_pre C hR hS _⟩ rfl hn hl hst (lv_room hw) hdg hf
theorem x_runS (C : x_C p s m args meth c cc nL ret own D N0 gp) (hR : x_R D s N0 X h H) (hS : va_S (x_A N0) s.heap H locs) {y : MethodName} {bytes : ByteArray} {maxL mc ms n index : Nat} {rt : Option FieldType} {rm : Room} {Qv : Option Value → x_X → x_H → Prop} {As st0 : List Value}
    (hM : Met l y (ws_ y bytes maxL rt) rm (x_Pc D N0 gp X h As) (x_Qc D N0 Qv) mc ms (x_A N0)) (hg : GoodIn lw_all (va_wsS own index y (ws_ y bytes maxL rt))) (hrc : rm.cells = mc) (hrs : rm.slots = ms) (hd : y.cls ≠ "java/lang/invoke/MethodHandle" ∧ y.cls ≠ "java/lang/invoke/VarHandle" ∧ (parseMethodDescriptor y.desc).map (fun d => d.parameters.length) = some n) (hrm : rm.frames + 1 ≤ R.frames ∧ 8 + (maxL + 11) + rm.locals ≤ R.locals)
    (hn : As.length = n) (hl : ls.size = nL) (hst : st0 = As.reverse ++ rest) (hw : (rest.map fun v => v.category).sum ≤ 8) (hdg : decode cc pc = .ok (.invokestatic index, 3)) (hf : cells + mc ≤ R.cells ∧ slots + ms ≤ R.slots) :
    va_Run p l e R s m args below meth c H locs cells slots mc ms (F0 m pc ls st0) rest (x_Qc D N0 Qv As.toArray) (x_A N0) :=
  va_runS C.1 hM (va_cwS n C.1.2.2.2.2 hg rfl hrc hrs hd hrm) ⟨x_blind, x_pre C hR hS _⟩ rfl hn hl hst (lv_room hw) hdg hf
/-- the ends -/
theorem x_endv {Qv : Option Value → x_X → x_H → Prop} {mc ms : Nat} (C : x_C p s m args meth c cc nL none own D N0 gp) (hR : x_R D s N0 X h H) (hS : va_S (x_A N0) s.heap H locs) (hq : Qv none X h) (hc : cells ≤ mc) (hs : slots ≤ ms) (hdg : decode cc pc = .ok (.return_, 1)) :
    W p l e R s m args below meth c H locs cells slots (MQ below (x_Qc D N0 Qv) args s mc ms (x_A N0)) (F0 m pc ls []) := by
  obtain ⟨⟨hx, hb, -, hown, hts⟩, hr, hlk, hG, -⟩ := C
  refine W.widen hc hs ?_
  exact W.vret hx hb hr (fun t ht hW => ⟨⟨none, X, h, rfl, hq, by rw [ht]; exact hR.moved hW.alike⟩, hS.F ht⟩) hS.2.2 hdg hlk
theorem x_endi {Qv : Option Value → x_X → x_H → Prop} {mc ms : Nat} {v : Int32} (C : x_C p s m args meth c cc nL (some .int) own D N0 gp) (hR : x_R D s N0 X h H) (hS : va_S (x_A N0) s.heap H locs) (hq : Qv (some (.int v)) X h) (hc : cells ≤ mc) (hs : slots ≤ ms) (hdg : decode cc pc = .ok (.ireturn, 1)) :
    W p l e R s m args below meth c H locs cells slots (MQ below (x_Qc D N0 Qv) args s mc ms (x_A N0)) (F0 m pc ls [.int v]) := by
  obtain ⟨⟨hx, hb, -, hown, hts⟩, hr, hlk, hG, -⟩ := C
  refine W.widen hc hs ?_
  exact W.iret hx hb hr (fun t ht hW => ⟨⟨_, X, h, rfl, hq, by rw [ht]; exact hR.moved hW.alike⟩, hS.F ht⟩) hS.2.2 hdg hlk
theorem x_endz {Qv : Option Value → x_X → x_H → Prop} {mc ms : Nat} {v : Int32} {ty : FieldType} (C : x_C p s m args meth c cc nL (some ty) own D N0 gp) (hR : x_R D s N0 X h H) (hS : va_S (x_A N0) s.heap H locs) (hn : narrow ty (.int v) = .int v) (hq : Qv (some (.int v)) X h) (hc : cells ≤ mc) (hs : slots ≤ ms) (hdg : decode cc pc = .ok (.ireturn, 1)) :
    W p l e R s m args below meth c H locs cells slots (MQ below (x_Qc D N0 Qv) args s mc ms (x_A N0)) (F0 m pc ls [.int v]) := by
  obtain ⟨⟨hx, hb, -, hown, hts⟩, hr, hlk, hG, -⟩ := C
  refine W.widen hc hs ?_
  exact W.zret hx hb hr hn (fun t ht hW => ⟨⟨_, X, h, rfl, hq, by rw [ht]; exact hR.moved hW.alike⟩, hS.F ht⟩) hS.2.2 hdg hlk
theorem x_enda {Qv : Option Value → x_X → x_H → Prop} {mc ms : Nat} {v : Option Nat} {rt : FieldType} (C : x_C p s m args meth c cc nL (some rt) own D N0 gp) (hrt : (∃ n, rt = .object n) ∨ ∃ t, rt = .array t) (hR : x_R D s N0 X h H) (hS : va_S (x_A N0) s.heap H locs) (hq : Qv (some (va_rf v)) X h) (hc : cells ≤ mc) (hs : slots ≤ ms) (hdg : decode cc pc = .ok (.areturn, 1)) :
    W p l e R s m args below meth c H locs cells slots (MQ below (x_Qc D N0 Qv) args s mc ms (x_A N0)) (F0 m pc ls [va_rf v]) := by
  obtain ⟨⟨hx, hb, -, hown, hts⟩, hr, hlk, hG, -⟩ := C
  refine W.widen hc hs ?_
  exact W.aret hx hb hr hrt (by cases v with
    | none => exact Or.inl rfl
    | some a => exact Or.inr ⟨a, rfl⟩) (fun t ht hW => ⟨⟨_, X, h, rfl, hq, by rw [ht]; exact hR.moved hW.alike⟩, hS.F ht⟩) hS.2.2 hdg hlk
end XR
def x_Vi (Q : Int32 → x_X → x_H → Prop) : Option Value → x_X → x_H → Prop := fun v X h => ∃ r : Int32, v = some (.int r) ∧ Q r X h
def x_Vv (Q : x_X → x_H → Prop) : Option Value → x_X → x_H → Prop := fun v X h => v = none ∧ Q X h
def x_Va (Q : Option Nat → x_X → x_H → Prop) : Option Value → x_X → x_H → Prop := fun v X h => ∃ r : Option Nat, v = some (va_rf r) ∧ Q r X h
def qPi (X : x_X) (h : x_H) (post : Int32 → Prop) : Int32 → x_X → x_H → Prop := fun r X1 h1 => X1 = X ∧ h1 = h ∧ post r
def qPv (X : x_X) (h : x_H) (post : Prop) : x_X → x_H → Prop := fun X1 h1 => X1 = X ∧ h1 = h ∧ post
def qPa (X : x_X) (h : x_H) (post : Option Nat → Prop) : Option Nat → x_X → x_H → Prop := fun r X1 h1 => X1 = X ∧ h1 = h ∧ post r
def qJi (X : x_X) (post : Int32 → x_H → Prop) : Int32 → x_X → x_H → Prop := fun r X1 h1 => X1 = X ∧ post r h1
def qJv (X : x_X) (post : x_H → Prop) : x_X → x_H → Prop := fun X1 h1 => X1 = X ∧ post h1
def qJa (X : x_X) (post : Option Nat → x_H → Prop) : Option Nat → x_X → x_H → Prop := fun r X1 h1 => X1 = X ∧ post r h1
theorem x_inc {x : Int32} (n : Int) (v : Int32) (h : Int32.ofInt n = v) : x + Int32.ofInt n = x + v := by rw [h]
theorem x_cat1 (o : Option Nat) : (va_rf o).category = 1 := by cases o <;> rfl
theorem x_le {k a n : Nat} (h : k + a ≤ n) : k ≤ n := by omega
theorem x_bud {k mc a b MC : Nat} (hk : k + mc ≤ MC) (h : a + b ≤ mc) : k + a ≤ MC := by omega
theorem x_budN {k mc a b MC : Nat} (hk : k + mc ≤ MC) (h : a + b ≤ mc) : (k + a) + b ≤ MC := by omega
theorem x_bud0 {k mc MC : Nat} (hk : k + mc ≤ MC) : k + 0 ≤ MC := by omega
section XS
variable {p : Program} {l : Launch} {e : Env} {R : Room} {s : State} {m : MethodId} {args : Array Value} {below : List Frame} {meth : Method} {c : Code} {H : Heap} {locs : List Loc} {cells slots : Nat} {Q : State → Prop}
variable {cc : ByteArray} {nL : Nat} {ret : Option FieldType} {own : String} {D : va_G} {N0 : Nat} {gp : Nat → Nat} {X X' : x_X} {h : x_H} {pc : Nat} {ls : Array Slot} {rest : List Value} {a : Nat}
theorem x_calli {Qv : Int32 → x_X → x_H → Prop} {mc ms : Nat} {av : Array Value} {st0 : List Value} (hr : va_Run p l e R s m args below meth c H locs cells slots mc ms (F0 m pc ls st0) rest (x_Qc D N0 (x_Vi Qv) av) (x_A N0)) (hS : va_S (x_A N0) s.heap H locs)
    (kk : ∀ (r : Int32) (X1 : x_X) (h1 : x_H) (H1 : Heap) (locs1 : List Loc), Qv r X1 h1 → x_R D s N0 X1 h1 H1 → va_S (x_A N0) s.heap H1 locs1 → W p l e R s m args below meth c H1 locs1 (cells + mc) (slots + ms) Q (F0 m (pc + 3) ls (.int r :: rest))) : W p l e R s m args below meth c H locs cells slots Q (F0 m pc ls st0) :=
  x_call hr hS fun v X1 h1 H1 locs1 hq hR hS => by
    obtain ⟨r, rfl, hq⟩ := hq
    exact kk r X1 h1 H1 locs1 hq hR hS
theorem x_callv {Qv : x_X → x_H → Prop} {mc ms : Nat} {av : Array Value} {st0 : List Value} (hr : va_Run p l e R s m args below meth c H locs cells slots mc ms (F0 m pc ls st0) rest (x_Qc D N0 (x_Vv Qv) av) (x_A N0)) (hS : va_S (x_A N0) s.heap H locs)
    (kk : ∀ (X1 : x_X) (h1 : x_H) (H1 : Heap) (locs1 : List Loc), Qv X1 h1 → x_R D s N0 X1 h1 H1 → va_S (x_A N0) s.heap H1 locs1 → W p l e R s m args below meth c H1 locs1 (cells + mc) (slots + ms) Q (F0 m (pc + 3) ls rest)) : W p l e R s m args below meth c H locs cells slots Q (F0 m pc ls st0) :=
  x_call hr hS fun v X1 h1 H1 locs1 hq hR hS => by
    obtain ⟨rfl, hq⟩ := hq
    exact kk X1 h1 H1 locs1 hq hR hS
theorem x_calla {Qv : Option Nat → x_X → x_H → Prop} {mc ms : Nat} {av : Array Value} {st0 : List Value} (hr : va_Run p l e R s m args below meth c H locs cells slots mc ms (F0 m pc ls st0) rest (x_Qc D N0 (x_Va Qv) av) (x_A N0)) (hS : va_S (x_A N0) s.heap H locs)
    (kk : ∀ (r : Option Nat) (X1 : x_X) (h1 : x_H) (H1 : Heap) (locs1 : List Loc), Qv r X1 h1 → x_R D s N0 X1 h1 H1 → va_S (x_A N0) s.heap H1 locs1 → W p l e R s m args below meth c H1 locs1 (cells + mc) (slots + ms) Q (F0 m (pc + 3) ls (va_rf r :: rest))) : W p l e R s m args below meth c H locs cells slots Q (F0 m pc ls st0) :=
  x_call hr hS fun v X1 h1 H1 locs1 hq hR hS => by
    obtain ⟨r, rfl, hq⟩ := hq
    exact kk r X1 h1 H1 locs1 hq hR hS
theorem x_calli0 {Qv : Int32 → x_X → x_H → Prop} {av : Array Value} {st0 : List Value} (hr : va_Run p l e R s m args below meth c H locs cells slots 0 0 (F0 m pc ls st0) rest (x_Qc D N0 (x_Vi Qv) av) (x_A N0)) (hS : va_S (x_A N0) s.heap H locs)
    (kk : ∀ (r : Int32) (X1 : x_X) (h1 : x_H) (H1 : Heap) (locs1 : List Loc), Qv r X1 h1 → x_R D s N0 X1 h1 H1 → va_S (x_A N0) s.heap H1 locs1 → W p l e R s m args below meth c H1 locs1 cells slots Q (F0 m (pc + 3) ls (.int r :: rest))) : W p l e R s m args below meth c H locs cells slots Q (F0 m pc ls st0) := x_calli hr hS kk
theorem x_callv0 {Qv : x_X → x_H → Prop} {av : Array Value} {st0 : List Value} (hr : va_Run p l e R s m args below meth c H locs cells slots 0 0 (F0 m pc ls st0) rest (x_Qc D N0 (x_Vv Qv) av) (x_A N0)) (hS : va_S (x_A N0) s.heap H locs)
    (kk : ∀ (X1 : x_X) (h1 : x_H) (H1 : Heap) (locs1 : List Loc), Qv X1 h1 → x_R D s N0 X1 h1 H1 → va_S (x_A N0) s.heap H1 locs1 → W p l e R s m args below meth c H1 locs1 cells slots Q (F0 m (pc + 3) ls rest)) : W p l e R s m args below meth c H locs cells slots Q (F0 m pc ls st0) := x_callv hr hS kk
theorem x_calla0 {Qv : Option Nat → x_X → x_H → Prop} {av : Array Value} {st0 : List Value} (hr : va_Run p l e R s m args below meth c H locs cells slots 0 0 (F0 m pc ls st0) rest (x_Qc D N0 (x_Va Qv) av) (x_A N0)) (hS : va_S (x_A N0) s.heap H locs)
    (kk : ∀ (r : Option Nat) (X1 : x_X) (h1 : x_H) (H1 : Heap) (locs1 : List Loc), Qv r X1 h1 → x_R D s N0 X1 h1 H1 → va_S (x_A N0) s.heap H1 locs1 → W p l e R s m args below meth c H1 locs1 cells slots Q (F0 m (pc + 3) ls (va_rf r :: rest))) : W p l e R s m args below meth c H locs cells slots Q (F0 m pc ls st0) := x_calla hr hS kk
end XS
/-- a boolean -/
def x_bit (v : Int32) : Prop := v = 0 ∨ v = 1
theorem x_bitN {v : Int32} (h : x_bit v) : narrow .boolean (.int v) = .int v := by rcases h with rfl | rfl <;> rfl
theorem x_bitF {v : Int32} (h : x_bit v) : fits .boolean (.int v) = true := by rcases h with rfl | rfl <;> rfl
