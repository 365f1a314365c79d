set_option maxRecDepth 100000
/-! PURE PART 16: the model judges a field (2) -/
theorem zi_mod5 : ∀ m : Nat, m < 1000 → Int32.ofNat m - Int32.ofNat m / 100000 * 100000 = Int32.ofNat m := by decide +kernel
theorem all_getD {l : List Int32} {p : Int32 → Bool} : l.all p = true ↔ ∀ j, j < l.length → p (l.getD j 0) = true := by
  rw [List.all_eq_true]
  constructor
  · intro h j hj; exact h _ (getD_mem hj)
  · intro h x hx
    obtain ⟨j, hj, e⟩ := List.getElem_of_mem hx
    have := h j hj
    rw [List.getD_eq_getElem?_getD, List.getElem?_eq_getElem hj] at this
    rw [← e]; exact this
/-- scalars but k, j -/
def g2 (a b : Nat) (G G' : Nat → Int32) : Prop := ∀ k, k ≠ a → k ≠ b → G' k = G k
theorem m_jl_bad {N : Nat → Nat → Int32} {e : En} {post : (Nat → Int32) → (Nat → Nat → Int32) → Prop} (hr : rowE N 16 e) : ∀ (d k : Nat) (x1 : Int32) (G : Nat → Int32), k + d = e.2.length → G 39 = 1 → (∀ G', g2 39 44 G G' → G' 39 = 1 → post G' N) → wX6_judgeLength_b43 post (d + 1) G N x1 (Int32.ofNat k) := by
  have hl := hr.2.1
  intro d
  induction d with
  | zero =>
    intro k x1 G hk hg hp
    refine ⟨fun _ => hp _ (fun j a b => by simp [upd, b]) (by simp [upd, hg]), fun z => absurd ?_ z⟩
    rw [z16, hr.2.2.2.1, zi_le (by omega) (by omega)]; omega
  | succ d ih =>
    intro k x1 G hk hg hp
    have e320 : (320 : Int32) + Int32.ofNat k = Int32.ofNat (320 + k) := zi_addL k 320 320 rfl
    refine ⟨fun z => ?_, fun _ => ⟨fun z => by rw [hg] at z; exact absurd z (by decide), fun _ => ⟨Or.inr rfl, by rw [e320]; exact zi_in (by omega) (by decide), ?_⟩⟩⟩
    · rw [z16, hr.2.2.2.1, zi_le (by omega) (by omega)] at z; omega
    · rw [zi_succ]
      exact ih (k + 1) _ _ (by omega) (by simp [upd]) fun G' h1 h2 => hp G' (fun j a b => by rw [h1 j a b]; simp [upd, a]) h2
theorem m_jl_good {N : Nat → Nat → Int32} {e : En} {post : (Nat → Int32) → (Nat → Nat → Int32) → Prop} (hr : rowE N 16 e) (ho : okC e) (h3 : e.2.length ≤ 3) : ∀ (d k m : Nat) (G : Nat → Int32), k + d = e.2.length → G 39 = 0 → m < 10 ^ k → (e.2.drop k).foldl (fun v c => 10 * v + c - 48) (Int32.ofNat m) = numOf e.2 → (∀ j, j < k → isDig (e.2.getD j 0) = true) →
    (e.2.all isDig = true → ∀ G', g2 39 44 G G' → G' 39 = 0 → G' 44 = numOf e.2 → post G' N) → (e.2.all isDig = false → ∀ G', g2 39 44 G G' → G' 39 = 1 → post G' N) → wX6_judgeLength_b43 post (d + 1) G N (Int32.ofNat m) (Int32.ofNat k) := by
  have hl := hr.2.1
  intro d
  induction d with
  | zero =>
    intro k m G hk hg hm hf hd h1 h0
    refine ⟨fun _ => h1 (all_getD.mpr fun j hj => hd j (by omega)) _ (fun j a b => by simp [upd, b]) (by simp [upd, hg]) ?_, fun z => absurd ?_ z⟩
    · rw [List.drop_eq_nil_of_le (by omega)] at hf
      rw [← hf]; rfl
    · rw [z16, hr.2.2.2.1, zi_le (by omega) (by omega)]; omega
  | succ d ih =>
    intro k m G hk hg hm hf hd h1 h0
    have e320 : (320 : Int32) + Int32.ofNat k = Int32.ofNat (320 + k) := zi_addL k 320 320 rfl
    have hk2 : k < e.2.length := by omega
    have ec : N 11 (320 + k) = e.2.getD k 0 := hr.2.2.2.2.2 k hk2
    have v : vp_in ((320 : Int32) + Int32.ofNat k) 340 := by rw [e320]; exact zi_in (by omega) (by decide)
    refine ⟨fun z => ?_, fun _ => ⟨fun _ => ⟨v, ?_⟩, fun z => absurd hg z⟩⟩
    · rw [z16, hr.2.2.2.1, zi_le (by omega) (by omega)] at z; omega
    rw [e320, zi_nat (by omega), ec]
    refine m_outside (fun c0 c1 => ⟨fun _ => ⟨Or.inl rfl, by rw [e320] at v; rw [e320]; exact v, ?_⟩, fun z => absurd rfl z⟩) (fun co => ⟨fun z => absurd z (by decide), fun _ => ⟨Or.inr rfl, v, ?_⟩⟩)
    · rw [e320, zi_nat (by omega), ec, zi_succ]
      obtain ⟨c, hc, ecc⟩ := zi_nn (m := 57) (x := e.2.getD k 0) (by lia) (by decide) c1
      rw [ecc, show (48 : Int32) = Int32.ofNat 48 from rfl, zi_le (by omega) (by omega)] at c0
      have hm2 : m < 1000 := Nat.lt_of_lt_of_le hm (by
        have : k ≤ 3 := by omega
        exact Nat.pow_le_pow_right (by decide) this)
      have hm3 : m < 100 := Nat.lt_of_lt_of_le hm (by
        have : k ≤ 2 := by omega
        exact Nat.pow_le_pow_right (n := 10) (by decide) this)
      have ey : (10 : Int32) * Int32.ofNat m + e.2.getD k 0 - 48 = Int32.ofNat (10 * m + c - 48) := by
        rw [ecc, zi_mulL m 10 10 rfl, zi_add]; exact zi_sub (a := 10 * m + c) (b := 48) (by omega)
      rw [ey, zi_mod5 _ (by omega)]
      refine ih (k + 1) _ _ (by omega) (by simp [upd]) (by rw [Nat.pow_succ]; omega) ?_ (fun j hj => ?_) (fun hh G' q1 q2 q3 => h1 hh G' (fun j a b => by rw [q1 j a b]; simp [upd, a]) q2 q3) (fun hh G' q1 q2 => h0 hh G' (fun j a b => by rw [q1 j a b]; simp [upd, a]) q2)
      · rw [List.drop_eq_getElem_cons hk2, List.foldl_cons] at hf
        have : e.2[k] = e.2.getD k 0 := by simp [List.getD_eq_getElem?_getD, hk2]
        rw [this, ey] at hf; exact hf
      · by_cases hjk : j = k
        · rw [hjk]; simp only [isDig, decide_eq_true_iff]
          rw [ecc]
          exact ⟨by rw [show (48 : Int32) = Int32.ofNat 48 from rfl, zi_le (by omega) (by omega)]; exact c0, by rw [show (57 : Int32) = Int32.ofNat 57 from rfl, zi_le (by omega) (by omega)]; exact hc⟩
        · exact hd j (by omega)
    · have hno : e.2.all isDig = false := by
        cases hq : e.2.all isDig with
        | false => rfl
        | true =>
          have := all_getD.mp hq k hk2
          simp only [isDig, decide_eq_true_iff] at this
          lia
      rw [zi_succ]
      exact m_jl_bad hr d (k + 1) _ _ (by omega) (by simp [upd]) fun G' q1 q2 => h0 hno G' (fun j a b => by rw [q1 j a b]; simp [upd, a]) q2
theorem m_judgeLength {G : Nat → Int32} {N : Nat → Nat → Int32} {e : En} {post : (Nat → Int32) → (Nat → Nat → Int32) → Prop} (hr : rowE N 16 e) (ho : okC e)
    (h1 : G 39 = 0 → G 44 = -1 → isNum e.2 = true → ∀ G', g2 39 44 G G' → G' 39 = 0 → G' 44 = numOf e.2 → post G' N) (h0 : (G 39 ≠ 0 ∨ G 44 ≠ -1 ∨ isNum e.2 = false) → ∀ G', g2 39 44 G G' → G' 39 = 1 → post G' N) : wX6_judgeLength post G N := by
  have hl := hr.2.1
  have bad : (G 39 ≠ 0 ∨ G 44 ≠ -1 ∨ isNum e.2 = false) → wX6_judgeLength_b31 post G N := fun hb =>
    ⟨Or.inr rfl, e.2.length + 1, m_jl_bad hr e.2.length 0 0 _ (by omega) (by simp [upd]) fun G' q1 q2 => h0 hb G' (fun j a b => by rw [q1 j a b]; simp [upd, a]) q2⟩
  refine ⟨fun z => ⟨fun w => ?_, fun w => bad (Or.inr (Or.inl w))⟩, fun z => bad (Or.inl z)⟩
  rw [z16, hr.2.2.2.1]
  refine m_outside (fun c0 c1 => ⟨fun _ => ⟨Or.inl rfl, e.2.length + 1, ?_⟩, fun q => absurd rfl q⟩) (fun co => ⟨fun q => absurd q (by decide), fun _ => bad (Or.inr (Or.inr ?_))⟩)
  · have l1 : 1 ≤ e.2.length := by
      rw [show (1 : Int32) = Int32.ofNat 1 from rfl, zi_le (by omega) (by omega)] at c0; exact c0
    have l3 : e.2.length ≤ 3 := by
      rw [show (3 : Int32) = Int32.ofNat 3 from rfl, zi_le (by omega) (by omega)] at c1; exact c1
    refine m_jl_good hr ho l3 e.2.length 0 0 _ (by omega) (by simp [upd]) (by decide) rfl (fun j hj => by omega) (fun hh G' q1 q2 q3 => h1 z w ?_ G' (fun j a b => by rw [q1 j a b]; simp [upd, a]) q2 q3) (fun hh G' q1 q2 => h0 (Or.inr (Or.inr ?_)) G' (fun j a b => by rw [q1 j a b]; simp [upd, a]) q2)
    · simp [isNum, l1, l3, hh]
    · simp [isNum, hh]
  · rw [show (1 : Int32) = Int32.ofNat 1 from rfl, show (3 : Int32) = Int32.ofNat 3 from rfl, zi_lt (by omega) (by omega), zi_lt (by omega) (by omega)] at co
    simp only [isNum, decide_eq_false_iff_not]; omega
/-! the summary of the fields so far -/
def SJa (G : Nat → Int32) (N : Nat → Nat → Int32) : Option Acc → Prop
  | none => G 39 = 1
  | some a => G 39 = 0 ∧ (G 41 = if a.2.2.2 = true then 1 else 0) ∧ (G 42 = match a.1 with
      | none => -1
      | some m => methOf m) ∧ (G 43 = if a.2.1.isSome = true then 1 else 0) ∧ (∀ pa, a.2.1 = some pa → G 45 = Int32.ofNat pa.length ∧ pa.length ≤ 20 ∧ ∀ k, k < pa.length → N 46 k = pa.getD k 0) ∧ G 44 = a.2.2.1
def SJ (G : Nat → Int32) (N : Nat → Nat → Int32) (fs : List En) : Prop := (G 40 = if colon fs = true then 1 else 0) ∧ SJa G N (judgeAll fs acc0)
theorem judgeAll_app : ∀ (fs : List En) (e : En) (a : Acc), judgeAll (fs ++ [e]) a = (judgeAll fs a).bind (fun q => judge q e)
  | [], e, a => by
    show (judge a e).bind (judgeAll []) = judge a e
    cases judge a e <;> rfl
  | f :: fs, e, a => by
    show (judge a f).bind (judgeAll (fs ++ [e])) = ((judge a f).bind (judgeAll fs)).bind _
    cases judge a f with
    | none => rfl
    | some b => exact judgeAll_app fs e b
theorem colon_app (fs : List En) (e : En) : colon (fs ++ [e]) = (colon fs || decide (e.1.getD 0 0 = 58)) := by
  simp [colon, List.any_append]
theorem methOf_ne (l : List Int32) : methOf l ≠ -1 ∧ (methOf l = 0 ∨ methOf l = 1 ∨ methOf l = 2) := by
  unfold methOf
  split
  · exact ⟨by decide, Or.inl rfl⟩
  · split
    · exact ⟨by decide, Or.inr (Or.inl rfl)⟩
    · exact ⟨by decide, Or.inr (Or.inr rfl)⟩
/-- scalars but those of the summary -/
def g5 (G G' : Nat → Int32) : Prop := ∀ k, k ∉ [39, 40, 41, 42, 43, 44, 45] → G' k = G k
theorem RM.g5 {G G' : Nat → Int32} {N : Nat → Nat → Int32} {s : SS} (h : RM G N s) (k : g5 G G') : RM G' N s :=
  ⟨fun j hj => (k j (by revert hj; simp [shr]; omega)).trans (h.1 j hj), h.2.1, ⟨(k 1 (by decide)).trans h.pg.1, h.pg.2⟩, ⟨(k 6 (by decide)).trans h.tb.1, h.tb.2⟩, h.st⟩
