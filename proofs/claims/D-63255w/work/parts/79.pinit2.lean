set_option maxRecDepth 100000
/-! PURE PART 53: the model's constructor, behind its arrays -/
theorem rowX.e {N : Nat → Nat → Int32} {i : Nat} {nm vl : List Int32} {vn : Int32} {e : En} (h : rowX N i nm vl vn) (h8 : N 8 i = Int32.ofNat e.1.length) (hv : vn = Int32.ofNat e.2.length) (l1 : e.1.length ≤ 6) (l2 : e.2.length ≤ 4) (h1 : ∀ k, k < e.1.length → nm.getD k 0 = e.1.getD k 0) (h2 : ∀ k, k < e.2.length → vl.getD k 0 = e.2.getD k 0) : rowE N i e :=
  ⟨by omega, by omega, h8, by rw [← hv]; exact h.2.1, fun k hk => by rw [h.2.2.1 k (by omega)]; exact h1 k hk, fun k hk => by rw [h.2.2.2 k (by omega)]; exact h2 k hk⟩
theorem m_init_t {ad : Nat → Nat} {h : x_H} {mc ms : Nat} {post : (Nat → Nat) → (Nat → Int32) → (Nat → Nat → Int32) → x_H → Prop} (hp : ∀ G' N', RM G' N' (SS.restart s0M) → post ad G' N' h) : wX6_init_t post ad (fun _ => 0) (fun _ _ => 0) h mc ms := by
  have b : ∀ p : Int32, (0 ≤ p ∧ p ≤ 127) = (0 ≤ p ∧ p ≤ 127) := fun _ => rfl
  refine m_fixedS (i := 0) (v := 3) (by decide) (by decide) (by decide) (by decide) (by decide) (by decide) (by decide) fun N1 r0 k1 => ?_
  refine m_fixedS (i := 1) (v := 4) (by decide) (by decide) (by decide) (by decide) (by decide) (by decide) (by decide) fun N2 r1 k2 => ?_
  refine m_fixedS (i := 2) (v := 1) (by decide) (by decide) (by decide) (by decide) (by decide) (by decide) (by decide) fun N3 r2 k3 => ?_
  refine m_fixedL (i := 3) (by decide) (by decide) (by decide) (by decide) (by decide) (by decide) (by decide) fun N4 r3 k4 => ?_
  refine m_fixedL (i := 4) (by decide) (by decide) (by decide) (by decide) (by decide) (by decide) (by decide) fun N5 r4 k5 => ?_
  refine m_fixedS (i := 5) (v := 3) (by decide) (by decide) (by decide) (by decide) (by decide) (by decide) (by decide) fun N6 r5 k6 => ?_
  refine m_fixedS (i := 6) (v := 3) (by decide) (by decide) (by decide) (by decide) (by decide) (by decide) (by decide) fun N7 r6 k7 => ?_
  have r0 := k7.2 _ _ _ _ (by decide) (k6.2 _ _ _ _ (by decide) (k5.2 _ _ _ _ (by decide) (k4.2 _ _ _ _ (by decide) (k3.2 _ _ _ _ (by decide) (k2.2 _ _ _ _ (by decide) r0)))))
  have r1 := k7.2 _ _ _ _ (by decide) (k6.2 _ _ _ _ (by decide) (k5.2 _ _ _ _ (by decide) (k4.2 _ _ _ _ (by decide) (k3.2 _ _ _ _ (by decide) r1))))
  have r2 := k7.2 _ _ _ _ (by decide) (k6.2 _ _ _ _ (by decide) (k5.2 _ _ _ _ (by decide) (k4.2 _ _ _ _ (by decide) r2)))
  have r3 := k7.2 _ _ _ _ (by decide) (k6.2 _ _ _ _ (by decide) (k5.2 _ _ _ _ (by decide) r3))
  have r4 := k7.2 _ _ _ _ (by decide) (k6.2 _ _ _ _ (by decide) r4)
  have r5 := k7.2 _ _ _ _ (by decide) r5
  have hN : ∀ k, k ∉ [8, 9, 10, 11] → N7 k = fun _ => 0 := fun k hk => by rw [k7.1 k hk, k6.1 k hk, k5.1 k hk, k4.1 k hk, k3.1 k hk, k2.1 k hk, k1.1 k hk]
  have z3 : (3 : Int32).toNatClampNeg = 3 := rfl
  have z4 : (4 : Int32).toNatClampNeg = 4 := rfl
  rw [z3, z4]
  generalize hN8 : va_up (va_up N7 8 (upd (N7 8) 3 4)) 8 (upd (upd (N7 8) 3 4) 4 6) = N8
  have n8 : N8 8 = upd (upd (N7 8) 3 4) 4 6 := by rw [← hN8]; simp [va_up]
  have nk : ∀ k, k ≠ 8 → N8 k = N7 k := fun k hk => by rw [← hN8]; simp [va_up, hk]
  have up : ∀ {i : Nat} {nm vl : List Int32} {vn : Int32}, rowX N7 i nm vl vn → N8 10 i = vn ∧ (∀ j, j < 6 → N8 9 (20 * i + j) = nm.getD j 0) ∧ ∀ j, j < 4 → N8 11 (20 * i + j) = vl.getD j 0 := fun hx => by
    rw [nk 9 (by decide), nk 10 (by decide), nk 11 (by decide)]; exact hx.2
  have e : ∀ {i : Nat} {nm vl : List Int32} {vn : Int32} {e : En}, rowX N7 i nm vl vn → N8 8 i = Int32.ofNat e.1.length → vn = Int32.ofNat e.2.length → e.1.length ≤ 6 → e.2.length ≤ 4 → (∀ k, k < e.1.length → nm.getD k 0 = e.1.getD k 0) → (∀ k, k < e.2.length → vl.getD k 0 = e.2.getD k 0) → rowE N8 i e := fun hx h8 hv l1 l2 h1 h2 => by
    obtain ⟨u1, u2, u3⟩ := up hx
    exact ⟨by omega, by omega, h8, by rw [← hv]; exact u1, fun k hk => by rw [u2 k (by omega)]; exact h1 k hk, fun k hk => by rw [u3 k (by omega)]; exact h2 k hk⟩
  have t0 : rowE N8 0 (ascii [58, 109], ascii [71, 69, 84]) := e r0 (by rw [n8]; simp [upd]; exact r0.1) (by decide) (by decide) (by decide) (by decide) (by decide)
  have t1 : rowE N8 1 (ascii [58, 109], ascii [72, 69, 65, 68]) := e r1 (by rw [n8]; simp [upd]; exact r1.1) (by decide) (by decide) (by decide) (by decide) (by decide)
  have t2 : rowE N8 2 (ascii [58, 112], ascii [47]) := e r2 (by rw [n8]; simp [upd]; exact r2.1) (by decide) (by decide) (by decide) (by decide) (by decide)
  have t3 : rowE N8 3 (ascii [104, 111, 115, 116], []) := e r3 (by rw [n8]; simp [upd]; decide) (by decide) (by decide) (by decide) (by decide) (by decide)
  have t4 : rowE N8 4 (ascii [108, 101, 110, 103, 116, 104], []) := e r4 (by rw [n8]; simp [upd]; decide) (by decide) (by decide) (by decide) (by decide) (by decide)
  have t5 : rowE N8 5 (ascii [58, 115], ascii [50, 48, 48]) := e r5 (by rw [n8]; simp [upd]; exact r5.1) (by decide) (by decide) (by decide) (by decide) (by decide)
  have t6 : rowE N8 6 (ascii [58, 115], ascii [52, 48, 52]) := e r6 (by rw [n8]; simp [upd]; exact r6.1) (by decide) (by decide) (by decide) (by decide) (by decide)
  have hM : RM (fun _ => 0) N8 s0M := by
    refine ⟨fun k _ => rfl, fun k hk => ?_, ⟨rfl, fun i q hq => by cases hq⟩, ⟨rfl, fun i e he => ?_⟩, [], trivial, List.nodup_nil, fun i hi => (by cases hi), fun i hi _ => ?_⟩
    · simp at hk
      rcases hk with rfl | rfl | rfl <;> (rw [nk _ (by decide), hN _ (by decide)]; rfl)
    · have he : (fixedE)[i]? = some e := by simpa [s0M, SS.came] using he
      have hi := (List.getElem?_eq_some_iff.mp he).1
      rw [fixed_len] at hi
      rcases (show i = 0 ∨ i = 1 ∨ i = 2 ∨ i = 3 ∨ i = 4 ∨ i = 5 ∨ i = 6 by omega) with rfl | rfl | rfl | rfl | rfl | rfl | rfl
      · rw [← Option.some.inj he]; exact t0
      · rw [← Option.some.inj he]; exact t1
      · rw [← Option.some.inj he]; exact t2
      · rw [← Option.some.inj he]; exact t3
      · rw [← Option.some.inj he]; exact t4
      · rw [← Option.some.inj he]; exact t5
      · rw [← Option.some.inj he]; exact t6
    · rw [nk 12 (by decide), hN 12 (by decide)]
  have hr : wX6_restart (fun F2 M2 => post ad F2 M2 h) (fun _ => 0) N8 := m_restart hM hp
  have e0 : upd (fun _ => 0) 0 0 = (fun _ : Nat => (0 : Int32)) := by funext j; simp [upd]
  unfold wX6_restart at hr
  rw [e0] at hr
  exact hr
