set_option maxRecDepth 100000
/-! PURE PART 52: the model begins -/
theorem zi_c7 {p : Int32} (h0 : 0 ≤ p) (h1 : p ≤ 127) : vp_nar .char ((p.toUInt32 % 65536).toInt32) = p := by
  rw [zi_c16 h0 (by lia), zi_nch h0 (by lia)]
def rowX (N : Nat → Nat → Int32) (i : Nat) (nm vl : List Int32) (vn : Int32) : Prop := N 8 i = 2 ∧ N 10 i = vn ∧ (∀ j, j < 6 → N 9 (20 * i + j) = nm.getD j 0) ∧ ∀ j, j < 4 → N 11 (20 * i + j) = vl.getD j 0
/-- what fixed() leaves as it was -/
def rowK (i : Nat) (N N' : Nat → Nat → Int32) : Prop := (∀ k, k ∉ [8, 9, 10, 11] → N' k = N k) ∧ ∀ (i' : Nat) (nm vl : List Int32) (vn : Int32), i' ≠ i → rowX N i' nm vl vn → rowX N' i' nm vl vn
theorem rowK_mk {i : Nat} {N : Nat → Nat → Int32} {c0 c1 c2 c3 c4 c5 d0 d1 d2 d3 v : Int32} : ∀ N' : Nat → Nat → Int32, (∀ k, k ∉ [8, 9, 10, 11] → N' k = N k) → N' 8 = upd (N 8) i 2 → N' 10 = upd (N 10) i v → N' 9 = upd (upd (upd (upd (upd (upd (N 9) (20 * i) c0) (20 * i + 1) c1) (20 * i + 2) c2) (20 * i + 3) c3) (20 * i + 4) c4) (20 * i + 5) c5 → N' 11 = upd (upd (upd (upd (N 11) (20 * i) d0) (20 * i + 1) d1) (20 * i + 2) d2) (20 * i + 3) d3 → rowX N' i [c0, c1, c2, c3, c4, c5] [d0, d1, d2, d3] v ∧ rowK i N N' := by
  intro N' h0 h8 h10 h9 h11
  refine ⟨⟨by rw [h8]; simp [upd], by rw [h10]; simp [upd], fun j hj => ?_, fun j hj => ?_⟩, h0, fun i' nm vl vn hi hx => ?_⟩
  · rw [h9]
    rcases (show j = 0 ∨ j = 1 ∨ j = 2 ∨ j = 3 ∨ j = 4 ∨ j = 5 by omega) with rfl | rfl | rfl | rfl | rfl | rfl <;> simp [upd]
  · rw [h11]
    rcases (show j = 0 ∨ j = 1 ∨ j = 2 ∨ j = 3 by omega) with rfl | rfl | rfl | rfl <;> simp [upd]
  · obtain ⟨x1, x2, x3, x4⟩ := hx
    refine ⟨by rw [h8]; simp [upd, hi]; exact x1, by rw [h10]; simp [upd, hi]; exact x2, fun j hj => ?_, fun j hj => ?_⟩
    · rw [h9]
      simp only [upd]
      rw [if_neg (by omega), if_neg (by omega), if_neg (by omega), if_neg (by omega), if_neg (by omega), if_neg (by omega)]
      exact x3 j hj
    · rw [h11]
      simp only [upd]
      rw [if_neg (by omega), if_neg (by omega), if_neg (by omega), if_neg (by omega)]
      exact x4 j hj
theorem nc0 : vp_nar .char 0 = 0 := by decide
theorem nc58 : vp_nar .char 58 = 58 := by decide
/-- a short name -/
theorem m_fixedS {G : Nat → Int32} {N : Nat → Nat → Int32} {i : Nat} {p2 p4 p5 p6 p7 v : Int32} {post : (Nat → Int32) → (Nat → Nat → Int32) → Prop} (hi : i ≤ 16) (b2 : 0 ≤ p2 ∧ p2 ≤ 127) (b4 : 0 ≤ p4 ∧ p4 ≤ 127) (b5 : 0 ≤ p5 ∧ p5 ≤ 127) (b6 : 0 ≤ p6 ∧ p6 ≤ 127) (b7 : 0 ≤ p7 ∧ p7 ≤ 127) (hv : v = if p7 ≤ 0 then (if p6 ≤ 0 then 1 else 3) else 4)
    (hp : ∀ N', rowX N' i [58, p2, 0, 0, 0, 0] [p4, p5, p6, p7] v → rowK i N N' → post G N') : wX6_fixed post (Int32.ofNat i) p2 0 p4 p5 p6 p7 G N := by
  have e0 : (20 : Int32) * Int32.ofNat i = Int32.ofNat (20 * i) := zi_mulL i 20 20 rfl
  have e1 : Int32.ofNat (20 * i) + 1 = Int32.ofNat (20 * i + 1) := zi_add _ 1
  have e2 : Int32.ofNat (20 * i) + 2 = Int32.ofNat (20 * i + 2) := zi_add _ 2
  have e3 : Int32.ofNat (20 * i) + 3 = Int32.ofNat (20 * i + 3) := zi_add _ 3
  have e4 : Int32.ofNat (20 * i) + 4 = Int32.ofNat (20 * i + 4) := zi_add _ 4
  have e5 : Int32.ofNat (20 * i) + 5 = Int32.ofNat (20 * i + 5) := zi_add _ 5
  have v0 : vp_in (Int32.ofNat (20 * i)) 340 := zi_in (by omega) (by decide)
  have v1 : vp_in (Int32.ofNat (20 * i + 1)) 340 := zi_in (by omega) (by decide)
  have v2 : vp_in (Int32.ofNat (20 * i + 2)) 340 := zi_in (by omega) (by decide)
  have v3 : vp_in (Int32.ofNat (20 * i + 3)) 340 := zi_in (by omega) (by decide)
  have v4 : vp_in (Int32.ofNat (20 * i + 4)) 340 := zi_in (by omega) (by decide)
  have v5 : vp_in (Int32.ofNat (20 * i + 5)) 340 := zi_in (by omega) (by decide)
  have vi : vp_in (Int32.ofNat i) 17 := zi_in (by omega) (by decide)
  have z : ∀ j : Nat, j ≤ 400 → (Int32.ofNat j).toNatClampNeg = j := fun j hj => zi_nat (by omega)
  refine ⟨fun _ => ⟨fun _ => ?_, fun w => absurd rfl w⟩, fun w => absurd (by decide) w⟩
  unfold wX6_fixed_b35; rw [e0]
  refine ⟨v0, fun _ => ?_, fun w => absurd rfl w⟩
  unfold wX6_fixed_b56; rw [e0, e1]
  refine ⟨v1, fun _ => ?_, fun w => absurd rfl w⟩
  unfold wX6_fixed_b77; rw [e0, e2]
  refine ⟨v2, fun _ => ?_, fun w => absurd rfl w⟩
  unfold wX6_fixed_b98; rw [e0, e3]
  refine ⟨v3, fun _ => ?_, fun w => absurd rfl w⟩
  unfold wX6_fixed_b119; rw [e0, e4]
  refine ⟨v4, fun _ => ?_, fun w => absurd rfl w⟩
  unfold wX6_fixed_b140; rw [e0, e1, e2, e3, e5]
  simp only [zi_c7 b2.1 b2.2, zi_c7 b4.1 b4.2, zi_c7 b5.1 b5.2, zi_c7 b6.1 b6.2, zi_c7 b7.1 b7.2, nc0, nc58, z (20 * i) (by omega), z (20 * i + 1) (by omega), z (20 * i + 2) (by omega), z (20 * i + 3) (by omega), z (20 * i + 4) (by omega), z (20 * i + 5) (by omega), z i (by omega)]
  have fin : ∀ w : Int32, w = v → ∀ N1 : Nat → Nat → Int32, (∀ k, k ∉ [8, 9, 10, 11] → N1 k = N k) → N1 8 = upd (N 8) i 2 → N1 10 = N 10 → N1 9 = upd (upd (upd (upd (upd (upd (N 9) (20 * i) 58) (20 * i + 1) p2) (20 * i + 2) 0) (20 * i + 3) 0) (20 * i + 4) 0) (20 * i + 5) 0 → N1 11 = upd (upd (upd (upd (N 11) (20 * i) p4) (20 * i + 1) p5) (20 * i + 2) p6) (20 * i + 3) p7 → wX6_fixed_b227 post (Int32.ofNat i) p2 0 p4 p5 p6 p7 G N1 w := by
    intro w hw N1 h0 h8 h10 h9 h11
    refine ⟨vi, ?_⟩
    rw [z i (by omega)]
    obtain ⟨r1, r2⟩ := rowK_mk (i := i) (N := N) (v := w) (va_up N1 10 (upd (N1 10) i w)) (fun k hk => by simp at hk; simp [va_up, hk]; exact h0 k (by simp [hk])) (by simp [va_up]; exact h8) (by simp [va_up, h10]) (by simp [va_up]; exact h9) (by simp [va_up]; exact h11)
    rw [hw] at r1 r2 ⊢
    exact hp _ r1 r2
  refine ⟨v5, vi, v0, v1, v2, v3, fun _ => ⟨fun q7 => ⟨fun q6 => fin _ (by rw [hv, if_pos q7, if_pos q6]) _ ?_ ?_ ?_ ?_ ?_, fun q6 => fin _ (by rw [hv, if_pos q7, if_neg q6]) _ ?_ ?_ ?_ ?_ ?_⟩, fun q7 => fin _ (by rw [hv, if_neg q7]) _ ?_ ?_ ?_ ?_ ?_⟩, fun w => absurd trivial w⟩
  all_goals first
    | (intro k hk; simp at hk; simp [va_up, hk])
    | (simp [va_up])
/-- a long name -/
theorem m_fixedL {G : Nat → Int32} {N : Nat → Nat → Int32} {i : Nat} {p2 p3 p4 p5 p6 p7 : Int32} {post : (Nat → Int32) → (Nat → Nat → Int32) → Prop} (hi : i ≤ 16) (b2 : 0 ≤ p2 ∧ p2 ≤ 127) (b3 : ¬ p3 ≤ 0 ∧ p3 ≤ 127) (b4 : 0 ≤ p4 ∧ p4 ≤ 127) (b5 : 0 ≤ p5 ∧ p5 ≤ 127) (b6 : 0 ≤ p6 ∧ p6 ≤ 127) (b7 : 0 ≤ p7 ∧ p7 ≤ 127)
    (hp : ∀ N', rowX N' i [p2, p3, p4, p5, p6, p7] [p4, p5, p6, p7] 0 → rowK i N N' → post G N') : wX6_fixed post (Int32.ofNat i) p2 p3 p4 p5 p6 p7 G N := by
  have e0 : (20 : Int32) * Int32.ofNat i = Int32.ofNat (20 * i) := zi_mulL i 20 20 rfl
  have e1 : Int32.ofNat (20 * i) + 1 = Int32.ofNat (20 * i + 1) := zi_add _ 1
  have e2 : Int32.ofNat (20 * i) + 2 = Int32.ofNat (20 * i + 2) := zi_add _ 2
  have e3 : Int32.ofNat (20 * i) + 3 = Int32.ofNat (20 * i + 3) := zi_add _ 3
  have e4 : Int32.ofNat (20 * i) + 4 = Int32.ofNat (20 * i + 4) := zi_add _ 4
  have e5 : Int32.ofNat (20 * i) + 5 = Int32.ofNat (20 * i + 5) := zi_add _ 5
  have v0 : vp_in (Int32.ofNat (20 * i)) 340 := zi_in (by omega) (by decide)
  have v1 : vp_in (Int32.ofNat (20 * i + 1)) 340 := zi_in (by omega) (by decide)
  have v2 : vp_in (Int32.ofNat (20 * i + 2)) 340 := zi_in (by omega) (by decide)
  have v3 : vp_in (Int32.ofNat (20 * i + 3)) 340 := zi_in (by omega) (by decide)
  have v4 : vp_in (Int32.ofNat (20 * i + 4)) 340 := zi_in (by omega) (by decide)
  have v5 : vp_in (Int32.ofNat (20 * i + 5)) 340 := zi_in (by omega) (by decide)
  have vi : vp_in (Int32.ofNat i) 17 := zi_in (by omega) (by decide)
  have z : ∀ j : Nat, j ≤ 400 → (Int32.ofNat j).toNatClampNeg = j := fun j hj => zi_nat (by omega)
  have one : ¬ (1 : Int32) = 0 := by decide
  refine ⟨fun w => absurd w b3.1, fun _ => ⟨fun w => absurd w one, fun _ => ?_⟩⟩
  unfold wX6_fixed_b35; rw [e0]
  refine ⟨v0, fun w => absurd w one, fun _ => ?_⟩
  unfold wX6_fixed_b56; rw [e0, e1]
  refine ⟨v1, fun w => absurd w one, fun _ => ?_⟩
  unfold wX6_fixed_b77; rw [e0, e2]
  refine ⟨v2, fun w => absurd w one, fun _ => ?_⟩
  unfold wX6_fixed_b98; rw [e0, e3]
  refine ⟨v3, fun w => absurd w one, fun _ => ?_⟩
  unfold wX6_fixed_b119; rw [e0, e4]
  refine ⟨v4, fun w => absurd w one, fun _ => ?_⟩
  unfold wX6_fixed_b140; rw [e0, e1, e2, e3, e5]
  simp only [zi_c7 b2.1 b2.2, zi_c7 (show 0 ≤ p3 by have := b3.1; lia) b3.2, zi_c7 b4.1 b4.2, zi_c7 b5.1 b5.2, zi_c7 b6.1 b6.2, zi_c7 b7.1 b7.2, nc0, nc58, z (20 * i) (by omega), z (20 * i + 1) (by omega), z (20 * i + 2) (by omega), z (20 * i + 3) (by omega), z (20 * i + 4) (by omega), z (20 * i + 5) (by omega), z i (by omega)]
  refine ⟨v5, vi, v0, v1, v2, v3, fun w => absurd w one, fun _ => ⟨vi, ?_⟩⟩
  rw [z i (by omega)]
  refine (fun r => hp _ r.1 r.2) (rowK_mk (i := i) (N := N) (v := 0) (c0 := p2) (c1 := p3) (c2 := p4) (c3 := p5) (c4 := p6) (c5 := p7) (d0 := p4) (d1 := p5) (d2 := p6) (d3 := p7) _ ?_ ?_ ?_ ?_ ?_)
  all_goals first
    | (intro k hk; simp at hk; simp [va_up, hk])
    | (simp [va_up])
/-- restart, whatever it writes over -/
theorem restart_cong {s s' : SS} (hg : ∀ k, k ∉ [7, 22, 23, 31, 32, 34, 47, 48, 49, 50, 51, 52, 53] → s.g k = s'.g k) (ha : s.a = s'.a) (hp : s.pages = s'.pages) : SS.restart s = SS.restart s' := by
  have e : ((((((((((((((((s.ws []).wc []).p 7 24).p 22 0).p 23 0).p 31 1).p 32 (-1)).p 34 0).p 47 0).p 48 0).p 49 0).p 50 100).p 51 40).p 52 64).p 53 0)) = ((((((((((((((((s'.ws []).wc []).p 7 24).p 22 0).p 23 0).p 31 1).p 32 (-1)).p 34 0).p 47 0).p 48 0).p 49 0).p 50 100).p 51 40).p 52 64).p 53 0)) := by
    refine Prod.ext (funext fun k => ?_) (Prod.ext ha (Prod.ext hp rfl))
    show upd (upd (upd (upd (upd (upd (upd (upd (upd (upd (upd (upd (upd s.g 7 24) 22 0) 23 0) 31 1) 32 (-1)) 34 0) 47 0) 48 0) 49 0) 50 100) 51 40) 52 64) 53 0 k = upd (upd (upd (upd (upd (upd (upd (upd (upd (upd (upd (upd (upd s'.g 7 24) 22 0) 23 0) 31 1) 32 (-1)) 34 0) 47 0) 48 0) 49 0) 50 100) 51 40) 52 64) 53 0 k
    simp only [upd]
    by_cases hk : k ∈ [7, 22, 23, 31, 32, 34, 47, 48, 49, 50, 51, 52, 53]
    · simp at hk
      rcases hk with rfl | rfl | rfl | rfl | rfl | rfl | rfl | rfl | rfl | rfl | rfl | rfl | rfl <;> rfl
    · rw [hg k hk]
  unfold SS.restart
  rw [e]
/-- the state before the first restart: as the model has it; as the component has it; one that keeps the law -/
def s0M : SS := (fun _ => 0, fun _ _ => 0, [], [], [])
def s0C : SS := s0M.p 7 24
theorem s0CM : SS.restart s0C = SS.restart s0M := restart_cong (fun k hk => by simp at hk; show upd s0M.g 7 24 k = s0M.g k; simp [upd, hk]) rfl rfl
theorem s0_ok : InvZ (SS.restart s0M) := by
  have e : SS.restart s0M = SS.restart ((s0M.p 32 (-1)).p 52 64) := restart_cong (fun k hk => by simp at hk; show s0M.g k = upd (upd s0M.g 32 (-1)) 52 64 k; simp [upd, hk]) rfl rfl
  rw [e]
  refine restart_ok ⟨⟨fun k hk => ?_, ?_, ?_, ?_, ?_, ?_, Or.inl rfl⟩, fun k => ?_, fun k => ?_, ⟨by decide, fun q hq => (by cases hq)⟩, ⟨fun e he => (by cases he), Nat.zero_le _⟩, InvS_nil⟩
  · show 0 ≤ upd (upd s0M.g 32 (-1)) 52 64 k ∧ upd (upd s0M.g 32 (-1)) 52 64 k ≤ 255
    simp at hk
    rcases hk with rfl | rfl | rfl | rfl | rfl | rfl <;> decide
  · decide
  · decide
  · decide
  · decide
  · decide
  · show (0 : Int32) ≤ 0 ∧ (0 : Int32) ≤ 255; decide
  · show (0 : Int32) ≤ 0 ∧ (0 : Int32) ≤ 255; decide
