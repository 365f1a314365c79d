/-! the start: the foreign cells -/
set_option maxRecDepth 100000
/-- a foreign cell's content, as the pure part wants it -/
def s_can (e : x_E) : Prop := (∃ v : Nat, e = .inr (9, [.ref v, .int 0])) ∨ (∃ (ty : FieldType) (n : Nat) (f : Nat → Int32), e = .inl (ty, (n, .inl f)) ∧ (ty = .int ∨ ty = .byte) ∧ n < 2147483648 ∧ ∀ j, n ≤ j → f j = 0) ∨ e = oarr 0 (fun _ => none)
theorem s_arrT {s : State} {cell : Cell} {t u : FieldType} (h : s.isArrayOf cell t) (h' : s.isArrayOf cell u) : t = u := by
  obtain ⟨-, k, hk, c, hc⟩ := h
  obtain ⟨-, k', hk', c', hc'⟩ := h'
  rw [hk] at hk'
  have := Option.some.inj hk'
  subst this
  rw [hc] at hc'
  injection hc'
theorem s_ordA {D : va_G} {s : State} {cell : Cell} {t : FieldType} (hK : x_K D s) (hc : cell.cls = D.1 9) (h : s.isArrayOf cell t) : False := by
  obtain ⟨-, kC, h1, h2⟩ := (hK 9 (RJ9, TJ9, 4) rfl).2
  obtain ⟨-, k, hk, c, hkc⟩ := h
  rw [hc, h1] at hk
  have := Option.some.inj hk
  subst this
  rw [h2] at hkc
  cases hkc
theorem s_uniq {D : va_G} {s : State} {a : Nat} {e e' : x_E} {H : Heap} (hK : x_K D s) (c : s_can e) (c' : s_can e') (h : x_rd D s a e H) (h' : x_rd D s a e' H) : e = e' := by
  have nat : ∀ {n m : Nat}, n < 2147483648 → m < 2147483648 → Int32.ofNat n = Int32.ofNat m → n = m := fun hn hm w => by
    have := congrArg Int32.toInt w
    rw [Int32.toInt_ofNat_of_lt hn, Int32.toInt_ofNat_of_lt hm] at this
    omega
  rcases c with ⟨v, rfl⟩ | ⟨ty, n, f, rfl, ht, hn, hf⟩ | rfl
  · obtain ⟨r, cell, r1, r2, r3, r4, r5, r6⟩ := h
    rcases c' with ⟨v', rfl⟩ | ⟨ty', n', f', rfl, ht', hn', hf'⟩ | rfl
    · obtain ⟨r', cell', r1', r2', r3', r4', r5', r6'⟩ := h'
      rw [r2] at r2'
      have := Option.some.inj r2'
      subst this
      have er : r = (RJ9, TJ9, 4) := (Option.some.inj r1).symm
      have er' : r' = (RJ9, TJ9, 4) := (Option.some.inj r1').symm
      have q := r6 0 (by rw [er]; decide) (by show 0 < 2; decide)
      have q' := r6' 0 (by rw [er']; decide) (by show 0 < 2; decide)
      rw [q] at q'
      have : Value.ref v = Value.ref v' := Option.some.inj q'
      injection this with w
      rw [w]
    · obtain ⟨cell', a1, a2, -⟩ := h'
      rw [r2] at a1
      have := Option.some.inj a1
      subst this
      exact (s_ordA hK r3 a2).elim
    · obtain ⟨cell', a1, a2, -⟩ := h'
      rw [r2] at a1
      have := Option.some.inj a1
      subst this
      exact (s_ordA hK r3 a2).elim
  · obtain ⟨cell, a1, a2, a3, a4, a5, a6⟩ := h
    rcases c' with ⟨v', rfl⟩ | ⟨ty', n', f', rfl, ht', hn', hf'⟩ | rfl
    · obtain ⟨r', cell', r1', r2', r3', -⟩ := h'
      rw [a1] at r2'
      have := Option.some.inj r2'
      subst this
      exact (s_ordA hK r3' a2).elim
    · obtain ⟨cell', b1, b2, b3, b4, b5, b6⟩ := h'
      rw [a1] at b1
      have := Option.some.inj b1
      subst this
      have et : ty = ty' := s_arrT a2 b2
      subst et
      rw [a5] at b5
      have en : n = n' := nat hn hn' b5
      subst en
      have ef : f = f' := by
        funext j
        by_cases hj : j < n
        · have q := a6 j hj
          have q' := b6 j hj
          rw [q] at q'
          have : Value.int (f j) = Value.int (f' j) := Option.some.inj q'
          injection this
        · rw [hf j (by omega), hf' j (by omega)]
      rw [ef]
    · obtain ⟨cell', b1, b2, -⟩ := h'
      rw [a1] at b1
      have := Option.some.inj b1
      subst this
      have et : ty = _ := s_arrT a2 b2
      rcases ht with w | w <;> (rw [w] at et; cases et)
  · obtain ⟨cell, a1, a2, -⟩ := h
    rcases c' with ⟨v', rfl⟩ | ⟨ty', n', f', rfl, ht', hn', hf'⟩ | rfl
    · obtain ⟨r', cell', r1', r2', r3', -⟩ := h'
      rw [a1] at r2'
      have := Option.some.inj r2'
      subst this
      exact (s_ordA hK r3' a2).elim
    · obtain ⟨cell', b1, b2, -⟩ := h'
      rw [a1] at b1
      have := Option.some.inj b1
      subst this
      have et : _ = ty' := s_arrT a2 b2
      rcases ht' with w | w <;> (rw [w] at et; cases et)
    · rfl
/-- the foreign cells: all that can be read so -/
noncomputable def s_h (D : va_G) (s : State) : x_H := fun q => @dite _ (∃ e, s_can e ∧ x_rd D s q e s.heap) (Classical.propDecidable _) (fun hq => some (1, Classical.choose hq)) (fun _ => none)
theorem s_h_eq {D : va_G} {s : State} {a : Nat} {e : x_E} (hK : x_K D s) (c : s_can e) (h : x_rd D s a e s.heap) : s_h D s a = some (1, e) := by
  have hq : ∃ e, s_can e ∧ x_rd D s a e s.heap := ⟨e, c, h⟩
  have hs := Classical.choose_spec hq
  unfold s_h
  rw [dif_pos hq, s_uniq hK hs.1 c hs.2 h]
theorem s_h_of {D : va_G} {s : State} {a t : Nat} {e : x_E} (h : s_h D s a = some (t, e)) : t = 1 ∧ s_can e ∧ x_rd D s a e s.heap := by
  unfold s_h at h
  split at h
  · rename_i hq
    have hs := Classical.choose_spec hq
    have := Prod.mk.inj (Option.some.inj h)
    exact ⟨this.1.symm, by rw [← this.2]; exact hs.1, by rw [← this.2]; exact hs.2⟩
  · cases h
theorem s_rd_lt {D : va_G} {s : State} {a : Nat} {e : x_E} {H : Heap} (h : x_rd D s a e H) : a < H.size := by
  cases e with
  | inl q =>
    obtain ⟨cell, h1, -⟩ := h
    exact (Array.getElem?_eq_some_iff.mp h1).1
  | inr o =>
    obtain ⟨r, cell, -, h1, -⟩ := h
    exact (Array.getElem?_eq_some_iff.mp h1).1
theorem s_R {D : va_G} {s : State} : x_R D s s.heap.size [] (s_h D s) s.heap :=
  ⟨fun k q h => by simp at h, fun i j p q h => by simp at h, fun a t e ha => by
    obtain ⟨h1, h2, h3⟩ := s_h_of ha
    exact Or.inl ⟨h1, Nat.not_le.mpr (s_rd_lt h3), h3⟩⟩
theorem s_rdT {D : va_G} {s : State} {ty : FieldType} {t N : Nat} {f : Nat → Int32} {A : Nat → Prop} (h : va_T ty t N (fun j => .int (f j)) A s s.heap) : x_rd D s t (.inl (ty, (N, .inl f))) s.heap := by
  obtain ⟨cell, h1, h2, h3, h4, h5, h6, -⟩ := h
  exact ⟨cell, h1, h2, h3, h4, h5, fun j hj => h6 j hj⟩
/-- a String constant -/
theorem s_str {D : va_G} {s : State} {args : Array Value} (hK : x_K D s) {tm : Term} (bs : List Int32) (hb : bs.length < 2147483648) (hex : (Cond.exactly tm "java/lang/String").before args s = true) (hco : (Cond.eq (.field tm "java/lang/String" "coder" "B") (.int 0)).before args s = true)
    (har : (Cond.arrayOf (.field tm "java/lang/String" "value" "[B") .byte).before args s = true) (hle : (Cond.eq (.length (.field tm "java/lang/String" "value" "[B")) (.int (Int32.ofNat bs.length))).before args s = true)
    (hel : ∀ j : Nat, j < bs.length → (Cond.eq (.elem (.field tm "java/lang/String" "value" "[B") (.int (Int32.ofNat j))) (.int (bs.getD j 0))).before args s = true) :
    ∃ a v : Nat, tm.eval args s none [] s = some (.ref a) ∧ x_rd D s a (.inr (9, [.ref v, .int 0])) s.heap ∧ x_rd D s v (.inl (.byte, (bs.length, .inl (fun j => bs.getD j 0)))) s.heap := by
  obtain ⟨a, c, cA, kA, q1, q2, q3, q4, q5, q6, -⟩ := Cond.exactly_spec (args := args) (first := s) (o := none) (s := s) (idx := []) (t := tm) (cls := "java/lang/String") hex
  obtain ⟨v, hv, hT⟩ := va_Tof (f := fun j => .int (bs.getD j 0)) (A := x_A s.heap.size) hb har (va_eqt hle) (fun j hj => va_eqt (hel j hj)) (fun a ha hn => absurd hn (Nat.not_le.mpr ha))
  obtain ⟨cf, k, i, f, cell, f1, f2, f3, f4, f5, -⟩ := vk_OFof (A := x_A s.heap.size) q1 hv (fun a ha hn => absurd hn (Nat.not_le.mpr ha))
  obtain ⟨cf', k', i', f', cell', g1, g2, g3, g4, g5, -⟩ := vk_OFof (A := x_A s.heap.size) q1 (va_eqt hco) (fun a ha hn => absurd hn (Nat.not_le.mpr ha))
  refine ⟨a, v, q1, ⟨(RJ9, TJ9, 4), cell, rfl, f3, ?_, ?_, f4, fun kk h6 h7 => ?_⟩, s_rdT hT⟩
  · rw [q3] at f3
    rw [← Option.some.inj f3, q6]
    have := (hK 9 (RJ9, TJ9, 4) rfl).2.1
    have e : s.vm.findClass "java/lang/String" = some (D.1 9) := this
    rw [q2] at e; exact Option.some.inj e
  · rw [q3] at f3
    rw [← Option.some.inj f3]; exact q5
  · have h7 : kk < 2 := h7
    rcases (show kk = 0 ∨ kk = 1 by omega) with rfl | rfl
    · obtain ⟨x1, x2, x3, x4, y1, y2⟩ := (hK 9 (RJ9, TJ9, 4) rfl).1 0 (by decide)
      have y1 : s.fieldFound? "java/lang/String" "value" "[B" = some (x1, x2, x3, x4) := y1
      rw [f1] at y1
      have : f = x4 := by
        have := Option.some.inj y1
        exact (Prod.mk.inj (Prod.mk.inj (Prod.mk.inj this).2).2).2
      show cell.slots[D.2 9 0]? = some (Value.ref v)
      rw [← y2, ← this]; exact f5
    · obtain ⟨x1, x2, x3, x4, y1, y2⟩ := (hK 9 (RJ9, TJ9, 4) rfl).1 1 (by decide)
      have y1 : s.fieldFound? "java/lang/String" "coder" "B" = some (x1, x2, x3, x4) := y1
      rw [g1] at y1
      have : f' = x4 := by
        have := Option.some.inj y1
        exact (Prod.mk.inj (Prod.mk.inj (Prod.mk.inj this).2).2).2
      rw [g3] at f3
      have ec := Option.some.inj f3
      show cell.slots[D.2 9 1]? = some (Value.int 0)
      rw [← y2, ← this, ← ec]; exact g5
