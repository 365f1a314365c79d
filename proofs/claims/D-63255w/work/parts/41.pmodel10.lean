set_option maxRecDepth 100000
/-! PURE PART 15: the model judges a field -/
theorem row0 {G : Nat → Int32} {N : Nat → Nat → Int32} {s : SS} (h : RM G N s) : N 11 0 = 71 ∧ N 11 1 = 69 ∧ N 11 2 = 84 ∧ N 11 20 = 72 ∧ N 11 21 = 69 ∧ N 11 22 = 65 ∧ N 11 23 = 68 := by
  have r0 := h.tb.2 0 _ rfl
  have r1 := h.tb.2 1 _ rfl
  have a := r0.2.2.2.2.2
  have b := r1.2.2.2.2.2
  exact ⟨a 0 (by decide), a 1 (by decide), a 2 (by decide), b 0 (by decide), b 1 (by decide), b 2 (by decide), b 3 (by decide)⟩
theorem row4 {G : Nat → Int32} {N : Nat → Nat → Int32} {s : SS} (h : RM G N s) : N 9 80 = 108 ∧ N 9 81 = 101 ∧ N 9 82 = 110 ∧ N 9 83 = 103 ∧ N 9 84 = 116 ∧ N 9 85 = 104 := by
  have r := (h.tb.2 4 _ rfl).2.2.2.2.1
  exact ⟨r 0 (by decide), r 1 (by decide), r 2 (by decide), r 3 (by decide), r 4 (by decide), r 5 (by decide)⟩
theorem len2 {l : List Int32} (h : l.length = 2) : l = [l.getD 0 0, l.getD 1 0] := by
  match l, h with
  | [a, b], _ => rfl
theorem len3 {l : List Int32} (h : l.length = 3) : l = [l.getD 0 0, l.getD 1 0, l.getD 2 0] := by
  match l, h with
  | [a, b, c], _ => rfl
theorem len4 {l : List Int32} (h : l.length = 4) : l = [l.getD 0 0, l.getD 1 0, l.getD 2 0, l.getD 3 0] := by
  match l, h with
  | [a, b, c, d], _ => rfl
theorem len6 {l : List Int32} (h : l.length = 6) : l = [l.getD 0 0, l.getD 1 0, l.getD 2 0, l.getD 3 0, l.getD 4 0, l.getD 5 0] := by
  match l, h with
  | [a, b, c, d, e, f], _ => rfl
theorem z16 : (16 : Int32).toNatClampNeg = 16 := by decide
theorem z320 : (320 : Int32).toNatClampNeg = 320 := by decide
theorem zi_len {l : List Int32} {k : Nat} (hl : l.length ≤ 20) (hk : k < 100) : Int32.ofNat l.length = Int32.ofNat k ↔ l.length = k := zi_eq (by omega) (by omega)
theorem m_methodOf {G : Nat → Int32} {N : Nat → Nat → Int32} {e : En} {post : Int32 → Prop} (h0 : N 11 0 = 71 ∧ N 11 1 = 69 ∧ N 11 2 = 84 ∧ N 11 20 = 72 ∧ N 11 21 = 69 ∧ N 11 22 = 65 ∧ N 11 23 = 68) (hr : rowE N 16 e) (hp : post (methOf e.2)) : wX6_methodOf post G N := by
  obtain ⟨g0, g1, g2, l0, l1, l2, l3⟩ := h0
  have q := hr.2.2.2.2.2
  have hl := hr.2.1
  unfold wX6_methodOf wX6_methodOf_b16
  rw [z16, hr.2.2.2.1]
  by_cases c3 : e.2.length = 3
  · have e3 : Int32.ofNat e.2.length = 3 := by rw [c3]; rfl
    rw [e3]
    refine ⟨fun _ => ⟨fun z => absurd z (by decide), fun _ => ⟨5, ?_⟩⟩, fun z => absurd rfl z⟩
    have q0 : N 11 320 = e.2.getD 0 0 := q 0 (by omega)
    have q1 : N 11 321 = e.2.getD 1 0 := q 1 (by omega)
    have q2 : N 11 322 = e.2.getD 2 0 := q 2 (by omega)
    have hm : methOf e.2 = if e.2.getD 0 0 = 71 ∧ e.2.getD 1 0 = 69 ∧ e.2.getD 2 0 = 84 then 0 else 2 := by
      rw [len3 c3]; simp [methOf, ascii]
    rw [hm] at hp
    simp only [wX6_methodOf_b36, tX6_methodOf_b36, wX6_methodOf_b69, wX6_methodOf_b73, wX6_methodOf_b74, wX6_methodOf_b105, wX6_methodOf_b106, wX6_methodOf_b113, wX6_methodOf_b130]
    simp [vp_in, g0, g1, g2, q0, q1, q2]
    by_cases k0 : e.2.getD 0 0 = 71 <;> by_cases k1 : e.2.getD 1 0 = 69 <;> by_cases k2 : e.2.getD 2 0 = 84 <;> simp [List.getD_eq_getElem?_getD] at * <;> simp [k0, k1, k2] at hp ⊢ <;> exact hp
  · have n3 : ¬ Int32.ofNat e.2.length = 3 := fun z => c3 ((zi_len (k := 3) hl (by decide)).mp z)
    by_cases c4 : e.2.length = 4
    · have e4 : Int32.ofNat e.2.length = 4 := by rw [c4]; rfl
      rw [e4]
      refine ⟨fun z => absurd z (by decide), fun _ => ⟨fun _ => ⟨5, ?_⟩, fun z => absurd rfl z⟩⟩
      have q0 : N 11 320 = e.2.getD 0 0 := q 0 (by omega)
      have q1 : N 11 321 = e.2.getD 1 0 := q 1 (by omega)
      have q2 : N 11 322 = e.2.getD 2 0 := q 2 (by omega)
      have q3 : N 11 323 = e.2.getD 3 0 := q 3 (by omega)
      have hm : methOf e.2 = if e.2.getD 0 0 = 72 ∧ e.2.getD 1 0 = 69 ∧ e.2.getD 2 0 = 65 ∧ e.2.getD 3 0 = 68 then 1 else 2 := by
        rw [len4 c4]; simp [methOf, ascii]
      rw [hm] at hp
      simp only [wX6_methodOf_b36, tX6_methodOf_b36, wX6_methodOf_b69, wX6_methodOf_b73, wX6_methodOf_b74, wX6_methodOf_b105, wX6_methodOf_b106, wX6_methodOf_b113, wX6_methodOf_b130]
      simp [vp_in, l0, l1, l2, l3, q0, q1, q2, q3]
      by_cases k0 : e.2.getD 0 0 = 72 <;> by_cases k1 : e.2.getD 1 0 = 69 <;> by_cases k2 : e.2.getD 2 0 = 65 <;> by_cases k3 : e.2.getD 3 0 = 68 <;> simp [List.getD_eq_getElem?_getD] at * <;> simp [k0, k1, k2, k3] at hp ⊢ <;> exact hp
    · have n4 : ¬ Int32.ofNat e.2.length = 4 := fun z => c4 ((zi_len (k := 4) hl (by decide)).mp z)
      have hm : methOf e.2 = 2 := by
        unfold methOf
        rw [if_neg (fun z => c3 (by rw [z]; rfl)), if_neg (fun z => c4 (by rw [z]; rfl))]
      rw [hm] at hp
      refine ⟨fun z => absurd z n3, fun _ => ⟨fun z => absurd z n4, fun _ => ⟨5, ?_⟩⟩⟩
      simp only [wX6_methodOf_b36, tX6_methodOf_b36, wX6_methodOf_b69, wX6_methodOf_b73, wX6_methodOf_b74, wX6_methodOf_b105, wX6_methodOf_b106, wX6_methodOf_b113, wX6_methodOf_b130]
      simp [vp_in]
      exact hp
theorem m_isNamed {G : Nat → Int32} {N : Nat → Nat → Int32} {e : En} {c : Int32} {post : Int32 → Prop} (hr : rowE N 16 e) (h1 : e.1 = [58, c] → post 1) (h0 : e.1 ≠ [58, c] → post 0) : wX6_isNamed post 16 c G N := by
  have q := hr.2.2.2.2.1
  have hl := hr.1
  have i0 : ((20 : Int32) * 16).toNatClampNeg = 320 := by decide
  have i1 : ((20 : Int32) * 16 + 1).toNatClampNeg = 321 := by decide
  refine ⟨by unfold vp_in; decide, ?_⟩
  rw [z16, hr.2.2.1, i0, i1]
  refine ⟨fun z => ?_, fun z => ⟨nb0, h0 fun w => z (by rw [w]; rfl)⟩⟩
  have l2 : e.1.length = 2 := (zi_len (k := 2) hl (by decide)).mp z
  have q0 : N 9 320 = e.1.getD 0 0 := q 0 (by omega)
  have q1 : N 9 321 = e.1.getD 1 0 := q 1 (by omega)
  rw [q0, q1]
  refine ⟨by unfold vp_in; decide, fun z0 => ⟨by unfold vp_in; decide, fun z1 => ⟨nb1, h1 (by rw [len2 l2, z0, z1])⟩, fun z1 => ⟨nb0, h0 fun w => z1 (by rw [w]; rfl)⟩⟩, fun z0 => ⟨nb0, h0 fun w => z0 (by rw [w]; rfl)⟩⟩
theorem m_isLength {G : Nat → Int32} {N : Nat → Nat → Int32} {e : En} {post : Int32 → Prop} (h4 : N 9 80 = 108 ∧ N 9 81 = 101 ∧ N 9 82 = 110 ∧ N 9 83 = 103 ∧ N 9 84 = 116 ∧ N 9 85 = 104) (hr : rowE N 16 e) (h1 : e.1 = ascii [108, 101, 110, 103, 116, 104] → post 1) (h0 : e.1 ≠ ascii [108, 101, 110, 103, 116, 104] → post 0) : wX6_isLength post G N := by
  obtain ⟨g0, g1, g2, g3, g4, g5⟩ := h4
  have q := hr.2.2.2.2.1
  have hl := hr.1
  unfold wX6_isLength
  rw [z16, hr.2.2.1]
  refine ⟨fun z => ?_, fun z => ⟨7, ?_⟩⟩
  · have l6 : e.1.length = 6 := (zi_len (k := 6) hl (by decide)).mp z
    have q0 : N 9 320 = e.1.getD 0 0 := q 0 (by omega)
    have q1 : N 9 321 = e.1.getD 1 0 := q 1 (by omega)
    have q2 : N 9 322 = e.1.getD 2 0 := q 2 (by omega)
    have q3 : N 9 323 = e.1.getD 3 0 := q 3 (by omega)
    have q4 : N 9 324 = e.1.getD 4 0 := q 4 (by omega)
    have q5 : N 9 325 = e.1.getD 5 0 := q 5 (by omega)
    have hm : e.1 = ascii [108, 101, 110, 103, 116, 104] ↔ e.1.getD 0 0 = 108 ∧ e.1.getD 1 0 = 101 ∧ e.1.getD 2 0 = 110 ∧ e.1.getD 3 0 = 103 ∧ e.1.getD 4 0 = 116 ∧ e.1.getD 5 0 = 104 := by
      rw [len6 l6]; simp [ascii]
    rw [hm] at h1
    rw [Ne, hm] at h0
    have key : ∀ (p : Prop) [Decidable p], ((p → post 1) ∧ (¬ p → post 0)) → post (if p then 1 else 0) := fun p _ hh => by
      by_cases hp : p
      · rw [if_pos hp]; exact hh.1 hp
      · rw [if_neg hp]; exact hh.2 hp
    have nb : narrow .boolean (.int 0) = .int 0 ∧ narrow .boolean (.int 1) = .int 1 := ⟨nb0, nb1⟩
    refine ⟨7, ?_⟩
    simp only [wX6_isLength_b20, tX6_isLength_b20, wX6_isLength_b57, wX6_isLength_b64]
    simp [vp_in, g0, g1, g2, g3, g4, g5, q0, q1, q2, q3, q4, q5, nb]
    simp only [List.getD_eq_getElem?_getD] at h1 h0
    clear hm q0 q1 q2 q3 q4 q5 q g0 g1 g2 g3 g4 g5 hr key nb hl z l6
    grind
  · have n6 : e.1 ≠ ascii [108, 101, 110, 103, 116, 104] := fun w => z (by rw [w]; rfl)
    simp only [wX6_isLength_b20, tX6_isLength_b20, wX6_isLength_b57, wX6_isLength_b64]
    simp
    exact ⟨nb0, h0 n6⟩
