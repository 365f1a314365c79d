set_option maxRecDepth 100000
/-! PURE PART 23: whose turn it is; the model pumps -/
def isTurn (s : SS) (l : List St) : Option St → Prop
  | none => ∀ st ∈ l, ¬ can st
  | some q => q ∈ l ∧ can q ∧ ∀ st ∈ l, can st → s.rank q ≤ s.rank st
theorem pick_ok {s : SS} {l : List St} {r : Option St} {st : St} (h : isTurn s l r) : isTurn s (l ++ [st]) (s.pick r st) := by
  unfold SS.pick
  by_cases c : can st
  · rw [if_pos c]
    cases r with
    | none =>
      refine ⟨by simp, c, fun q hq hc => ?_⟩
      rcases List.mem_append.mp hq with w | w
      · exact absurd hc (h q w)
      · rw [List.mem_singleton.mp w]; exact Int32.le_refl _
    | some q =>
      obtain ⟨h1, h2, h3⟩ := h
      show isTurn s (l ++ [st]) (if s.rank st < s.rank q then some st else some q)
      by_cases e : s.rank st < s.rank q
      · rw [if_pos e]
        refine ⟨by simp, c, fun x hx hc => ?_⟩
        rcases List.mem_append.mp hx with w | w
        · have := h3 x w hc; lia
        · rw [List.mem_singleton.mp w]; exact Int32.le_refl _
      · rw [if_neg e]
        refine ⟨List.mem_append_left _ h1, h2, fun x hx hc => ?_⟩
        rcases List.mem_append.mp hx with w | w
        · exact h3 x w hc
        · rw [List.mem_singleton.mp w]; lia
  · rw [if_neg c]
    cases r with
    | none =>
      intro q hq hc
      rcases List.mem_append.mp hq with w | w
      · exact h q w hc
      · rw [List.mem_singleton.mp w] at hc; exact c hc
    | some q =>
      obtain ⟨h1, h2, h3⟩ := h
      refine ⟨List.mem_append_left _ h1, h2, fun x hx hc => ?_⟩
      rcases List.mem_append.mp hx with w | w
      · exact h3 x w hc
      · rw [List.mem_singleton.mp w] at hc; exact absurd hc c
theorem turn_ok (s : SS) : isTurn s s.sts s.turn := by
  have key : ∀ (l l0 : List St) (r : Option St), isTurn s l0 r → isTurn s (l0 ++ l) (l.foldl s.pick r) := by
    intro l
    induction l with
    | nil => intro l0 r h; simpa using h
    | cons a l ih =>
      intro l0 r h
      rw [List.foldl_cons]
      have := ih (l0 ++ [a]) _ (pick_ok (st := a) h)
      rwa [List.append_assoc] at this
  exact key s.sts [] none (fun st hs => by cases hs)
theorem rank_inj {s : SS} (hi : InvS s.sts) {a b : St} (ha : a ∈ s.sts) (hb : b ∈ s.sts) (h : s.rank a = s.rank b) : a = b := by
  have h1 := hi.num a ha
  have h2 := hi.num b hb
  refine hi.uniq ha hb ?_
  unfold SS.rank at h
  split at h <;> split at h <;> lia
theorem turn_uniq {s : SS} (hi : InvS s.sts) {r : Option St} (h : isTurn s s.sts r) : s.turn = r := by
  have ht := turn_ok s
  cases hq : s.turn with
  | none =>
    rw [hq] at ht
    cases r with
    | none => rfl
    | some q => exact absurd h.2.1 (ht q h.1)
  | some p =>
    rw [hq] at ht
    cases r with
    | none => exact absurd ht.2.1 (h p ht.1)
    | some q =>
      have e1 := ht.2.2 q h.1 h.2.1
      have e2 := h.2.2 p ht.1 ht.2.1
      rw [rank_inj hi ht.1 h.1 (by lia)]
theorem m_turn {G : Nat → Int32} {N : Nat → Nat → Int32} {s : SS} {σ : List Nat} {post : Int32 → Prop} (h : RM G N s) (hσ : RMs N σ s.sts) (hi : InvS s.sts)
    (h0 : s.turn = none → post (-1)) (h1 : ∀ st j, s.turn = some st → st ∈ s.sts → can st → j < 4 → j ∈ σ → slot N j st → post (Int32.ofNat j)) : wX6_turn post G N := by
  -- what slots below i say
  have key : ∀ (d i : Nat) (x1 x2 : Int32), i + d = 4 → ((x1 = -1 ∧ x2 = 1000 ∧ ∀ k st, k < i → k ∈ σ → st ∈ s.sts → slot N k st → ¬ can st) ∨ ∃ j q, j < i ∧ j ∈ σ ∧ q ∈ s.sts ∧ slot N j q ∧ can q ∧ x1 = Int32.ofNat j ∧ x2 = s.rank q ∧ ∀ k st, k < i → k ∈ σ → st ∈ s.sts → slot N k st → can st → s.rank q ≤ s.rank st) → wX6_turn_b8 post G N (d + 1) x1 x2 (Int32.ofNat i) := by
    intro d
    induction d with
    | zero =>
      intro i x1 x2 hid hc
      refine ⟨fun _ => ?_, fun z => absurd ?_ z⟩
      · show post x1
        rcases hc with ⟨rfl, -, hno⟩ | ⟨j, q, hj, hjσ, hq, hsl, hcan, rfl, -, hmin⟩
        · refine h0 (turn_uniq hi (r := none) fun st hs hcn => ?_)
          obtain ⟨k, k1, k2⟩ := hσ.all.mem' hs
          exact hno k st (by have := hσ.lt k k1; omega) k1 hs k2 hcn
        · have ht : s.turn = some q := turn_uniq hi ⟨hq, hcan, fun st hs hcn => by
            obtain ⟨k, k1, k2⟩ := hσ.all.mem' hs
            exact hmin k st (by have := hσ.lt k k1; omega) k1 hs k2 hcn⟩
          exact h1 q j ht hq hcan (by omega) hjσ hsl
      · rw [show (4 : Int32) = Int32.ofNat 4 from rfl, zi_le (by omega) (by omega)]; omega
    | succ d ih =>
      intro i x1 x2 hid hc
      have i4 : i < 4 := by omega
      have v4 : vp_in (Int32.ofNat i) 4 := zi_in i4 (by decide)
      have ez : (Int32.ofNat i).toNatClampNeg = i := zi_nat (by omega)
      have hx2 : x2 ≤ 1000 := by
        rcases hc with ⟨-, rfl, -⟩ | ⟨j, q, hj, hjσ, hq, hsl, hcan, -, rfl, -⟩
        · decide
        · have := hi.num q hq
          unfold SS.rank; split <;> lia
      -- not this one
      have skip : (∀ st, i ∈ σ → st ∈ s.sts → slot N i st → can st → x1 ≠ -1 ∧ x2 ≤ s.rank st) → wX6_turn_b8 post G N (d + 1) x1 x2 (Int32.ofNat i + 1) := by
        intro hno
        rw [zi_succ]
        refine ih (i + 1) x1 x2 (by omega) ?_
        rcases hc with ⟨rfl, e2, hn⟩ | ⟨j, q, hj, hjσ, hq, hsl, hcan, e1, rfl, hmin⟩
        · refine Or.inl ⟨rfl, e2, fun k st hk hkσ hs hks hcn => ?_⟩
          by_cases e : k = i
          · subst e; exact (hno st hkσ hs hks hcn).1 rfl
          · exact hn k st (by omega) hkσ hs hks hcn
        · refine Or.inr ⟨j, q, by omega, hjσ, hq, hsl, hcan, e1, rfl, fun k st hk hkσ hs hks hcn => ?_⟩
          by_cases e : k = i
          · subst e; exact (hno st hkσ hs hks hcn).2
          · exact hmin k st (by omega) hkσ hs hks hcn
      have b84 : ∀ r : Int32, (∀ st, i ∈ σ → st ∈ s.sts → slot N i st → can st → x1 ≠ -1 ∧ x2 ≤ s.rank st) → wX6_turn_b84 post (wX6_turn_b8 post G N (d + 1)) G N x1 x2 (Int32.ofNat i) r := fun r hno =>
        ⟨fun _ => ⟨fun _ => skip hno, fun z => absurd rfl z⟩, fun z => absurd rfl z⟩
      -- with its rank
      have b45 : ∀ r : Int32, (∀ st, i ∈ σ → st ∈ s.sts → slot N i st → r = s.rank st) → wX6_turn_b45 post (wX6_turn_b8 post G N (d + 1)) G N x1 x2 (Int32.ofNat i) r := by
        intro r hr
        unfold wX6_turn_b45
        rw [ez]
        refine ⟨v4, fun z => b84 r fun st hiσ hs hsl hcn => ?_, fun z => ⟨v4, fun w => b84 r fun st hiσ hs hsl hcn => ?_, fun w => ⟨v4, fun y => b84 r fun st hiσ hs hsl hcn => ?_, fun y => ⟨fun x => b84 r fun st hiσ hs hsl hcn => ?_, fun x => ?_⟩⟩⟩⟩
        · rw [hsl.num] at z; have := (hi.num st hs).1; lia
        · rw [show N 16 i = st.left from hsl.f 16] at w
          have := (hi.left st hs).1
          exact absurd (by lia) hcn.1
        · rw [show N 13 i = st.win from hsl.f 13] at y
          have := hcn.2
          lia
        · refine ⟨fun e => ?_, by rw [← hr st hiσ hs hsl]; exact x⟩
          rcases hc with ⟨-, e2, -⟩ | ⟨j, q, hj, hjσ, hq, hsl', hcan, e1, -, -⟩
          · have h3 := hi.num st hs
            have h4 := hr st hiσ hs hsl
            rw [e2, h4] at x
            unfold SS.rank at x
            split at x <;> lia
          · rw [e1] at e; exact zi_neg1 (by omega) e
        · -- this one
          refine ⟨fun e => absurd e (by decide), fun _ => ⟨fun e => absurd e (by decide), fun _ => ?_⟩⟩
          unfold wX6_turn_b109
          rw [zi_succ]
          have hiσ : i ∈ σ := Decidable.byContradiction fun q => by rw [hσ.out i i4 q] at z; exact z (by decide)
          obtain ⟨st, hs, hsl⟩ := hσ.all.mem hiσ
          have hcn : can st := by
            rw [show N 16 i = st.left from hsl.f 16] at w
            rw [show N 13 i = st.win from hsl.f 13] at y
            exact ⟨fun q => w (by rw [q]; decide), by lia⟩
          have er := hr st hiσ hs hsl
          have hone : ∀ st', i ∈ σ → st' ∈ s.sts → slot N i st' → st' = st := fun st' _ hs' hsl' => hi.uniq hs' hs (by rw [← hsl'.num, ← hsl.num])
          refine ih (i + 1) _ _ (by omega) (Or.inr ⟨i, st, by omega, hiσ, hs, hsl, hcn, rfl, er, fun k st' hk hkσ hs' hks hcn' => ?_⟩)
          by_cases e : k = i
          · subst e; rw [hone st' hkσ hs' hks]; exact Int32.le_refl _
          · rcases hc with ⟨-, -, hn⟩ | ⟨j, q, hj, hjσ, hq, hsl', hcan, e1, e2, hmin⟩
            · exact absurd hcn' (hn k st' (by omega) hkσ hs' hks)
            · have := hmin k st' (by omega) hkσ hs' hks hcn'
              rw [e2, er] at x
              lia
      have h49 : G 49 = s.g 49 := h.f 49
      refine ⟨fun z => ?_, fun _ => ⟨v4, ?_⟩⟩
      · rw [show (4 : Int32) = Int32.ofNat 4 from rfl, zi_le (by omega) (by omega)] at z; omega
      rw [ez, h49]
      refine ⟨fun z => ⟨v4, b45 _ fun st _ hs hsl => ?_⟩, fun z => ⟨v4, b45 _ fun st _ hs hsl => ?_⟩⟩
      · rw [hsl.num] at z ⊢
        unfold SS.rank; rw [if_neg (by lia)]
      · rw [hsl.num] at z ⊢
        unfold SS.rank; rw [if_pos (by lia)]
  exact ⟨5, key 4 0 (-1) 1000 rfl (Or.inl ⟨rfl, rfl, fun k st hk => by omega⟩)⟩
