set_option maxRecDepth 100000
/-! PURE PART 41: the component: names, numbers -/
def okS (cs : List Int32) : Prop := ∀ c ∈ cs, 0 ≤ c ∧ c ≤ 127
theorem okS.get {cs : List Int32} (h : okS cs) {i : Nat} (hi : i < cs.length) : 0 ≤ cs.getD i 0 ∧ cs.getD i 0 ≤ 127 ∧ cs.drop i = cs.getD i 0 :: cs.drop (i + 1) := by
  have e : cs.getD i 0 = cs[i] := by simp [List.getD, List.getElem?_eq_getElem hi]
  rw [e]
  exact ⟨(h _ (List.getElem_mem hi)).1, (h _ (List.getElem_mem hi)).2, List.drop_eq_getElem_cons hi⟩
theorem okE.n {e : En} (h : okE e) : okS e.1 := fun c hc => by have := h.2.2.2.1 c hc; lia
theorem okE.v {e : En} (h : okE e) : okS e.2 := fun c hc => by have := h.2.2.2.2 c hc; lia
def bitI (b : Bool) : Int32 := if b = true then 1 else 0
theorem c_isName {gp ad : Nat → Nat} {h : x_H} {F : Nat → Int32} {M : Nat → Nat → Int32} {a : Nat} {cs : List Int32} {post : Int32 → Prop} (hs : isStr h a cs) (ho : okS cs) (hp : post (bitI (cs.all isLet))) : wX1_isName post gp ad a F M h := by
  have hl := hs.len
  obtain ⟨t, fs, hc⟩ := hs.cell
  have key : ∀ (d i : Nat) (b : Bool), i + d = cs.length → post (bitI (b && (cs.drop i).all isLet)) → wX1_isName_b4 post gp ad a F M h (d + 1) (bitI b) (Int32.ofNat i) := by
    intro d
    induction d with
    | zero =>
      intro i b hid hq
      rw [List.drop_eq_nil_of_le (by omega)] at hq
      refine ⟨_, _, hc, pJ9_length hs ⟨fun _ => ?_, fun z => absurd ((zi_le (by omega) (by omega)).mpr (by omega)) z⟩⟩
      have hq : post (bitI b) := by simpa using hq
      cases b
      · exact ⟨nb0, hq⟩
      · exact ⟨nb1, hq⟩
    | succ d ih =>
      intro i b hid hq
      obtain ⟨g1, g2, g3⟩ := ho.get (i := i) (by omega)
      rw [g3, List.all_cons] at hq
      refine ⟨_, _, hc, pJ9_length hs ⟨fun z => ?_, fun _ => ?_⟩⟩
      · rw [zi_le (by omega) (by omega)] at z; omega
      · cases b
        · refine ⟨fun _ => ?_, fun z => absurd rfl z⟩
          show wX1_isName_b4 post gp ad a F M h (d + 1) 0 (Int32.ofNat i + 1)
          rw [zi_succ]
          exact ih (i + 1) false (by omega) (by simpa using hq)
        · refine ⟨fun z => absurd z (by decide), fun _ => ⟨_, _, hc, pJ9_charAt hs (by omega) g1 g2 (c_isLetter (fun hl => ⟨fun z => absurd z (by decide), fun _ => ?_⟩) fun hl => ⟨fun _ => ?_, fun z => absurd rfl z⟩)⟩⟩
          · show wX1_isName_b4 post gp ad a F M h (d + 1) 1 (Int32.ofNat i + 1)
            rw [zi_succ]
            exact ih (i + 1) true (by omega) (by rw [hl] at hq; simpa using hq)
          · show wX1_isName_b4 post gp ad a F M h (d + 1) 0 (Int32.ofNat i + 1)
            rw [zi_succ]
            exact ih (i + 1) false (by omega) (by rw [hl] at hq; simpa using hq)
  exact ⟨cs.length + 1, key cs.length 0 true (by omega) (by simpa using hp)⟩
theorem c_isNumber {gp ad : Nat → Nat} {h : x_H} {F : Nat → Int32} {M : Nat → Nat → Int32} {a : Nat} {cs : List Int32} {post : Int32 → Prop} (hs : isStr h a cs) (ho : okS cs) (hp : post (bitI (isNum cs))) : wX1_isNumber post gp ad a F M h := by
  have hl := hs.len
  obtain ⟨t, fs, hc⟩ := hs.cell
  have key : ∀ (d i : Nat) (b : Bool), i + d = cs.length → post (bitI (b && (cs.drop i).all isDig)) → wX1_isNumber_b20 post gp ad a F M h (d + 1) (bitI b) (Int32.ofNat i) := by
    intro d
    induction d with
    | zero =>
      intro i b hid hq
      rw [List.drop_eq_nil_of_le (by omega)] at hq
      refine ⟨_, _, hc, pJ9_length hs ⟨fun _ => ?_, fun z => absurd ((zi_le (by omega) (by omega)).mpr (by omega)) z⟩⟩
      have hq : post (bitI b) := by simpa using hq
      cases b
      · exact ⟨nb0, hq⟩
      · exact ⟨nb1, hq⟩
    | succ d ih =>
      intro i b hid hq
      obtain ⟨g1, g2, g3⟩ := ho.get (i := i) (by omega)
      rw [g3, List.all_cons] at hq
      refine ⟨_, _, hc, pJ9_length hs ⟨fun z => ?_, fun _ => ?_⟩⟩
      · rw [zi_le (by omega) (by omega)] at z; omega
      · cases b
        · refine ⟨fun _ => ?_, fun z => absurd rfl z⟩
          show wX1_isNumber_b20 post gp ad a F M h (d + 1) 0 (Int32.ofNat i + 1)
          rw [zi_succ]
          exact ih (i + 1) false (by omega) (by simpa using hq)
        · refine ⟨fun z => absurd z (by decide), fun _ => ⟨_, _, hc, pJ9_charAt hs (by omega) g1 g2 (c_outside (fun y1 y2 => ⟨fun _ => ?_, fun z => absurd rfl z⟩) fun y => ⟨fun z => absurd z (by decide), fun _ => ?_⟩)⟩⟩
          · have hd : isDig (cs.getD i 0) = true := by simp only [isDig, decide_eq_true_iff]; exact ⟨y1, y2⟩
            show wX1_isNumber_b20 post gp ad a F M h (d + 1) 1 (Int32.ofNat i + 1)
            rw [zi_succ]
            exact ih (i + 1) true (by omega) (by rw [hd] at hq; simpa using hq)
          · have hd : isDig (cs.getD i 0) = false := by simp only [isDig, decide_eq_false_iff_not]; intro w; rcases y with y | y <;> lia
            show wX1_isNumber_b20 post gp ad a F M h (d + 1) 0 (Int32.ofNat i + 1)
            rw [zi_succ]
            exact ih (i + 1) false (by omega) (by rw [hd] at hq; simpa using hq)
  refine ⟨_, _, hc, pJ9_length hs (c_outside (fun y1 y2 => ⟨fun _ => ⟨cs.length + 1, ?_⟩, fun z => absurd rfl z⟩) fun y => ⟨fun z => absurd z (by decide), fun _ => ⟨cs.length + 1, ?_⟩⟩)⟩
  · have l1 : 1 ≤ cs.length := (zi_le (a := 1) (by decide) (by omega)).mp y1
    have l3 : cs.length ≤ 3 := (zi_le (b := 3) (by omega) (by decide)).mp y2
    refine key cs.length 0 true (by omega) ?_
    have : isNum cs = cs.all isDig := by
      cases hq : cs.all isDig with
      | true => exact decide_eq_true ⟨l1, l3, hq⟩
      | false => exact decide_eq_false (fun w => by rw [hq] at w; exact absurd w.2.2 (by decide))
    rw [this] at hp
    simpa using hp
  · refine key cs.length 0 false (by omega) ?_
    have : isNum cs = false := by
      unfold isNum
      simp only [decide_eq_false_iff_not]
      intro w
      rcases y with y | y
      · rw [show (1 : Int32) = Int32.ofNat 1 from rfl, zi_lt (by omega) (by decide)] at y; omega
      · rw [show (3 : Int32) = Int32.ofNat 3 from rfl, zi_lt (by decide) (by omega)] at y; omega
    rw [this] at hp
    simpa using hp
theorem c_numberOf {gp ad : Nat → Nat} {h : x_H} {F : Nat → Int32} {M : Nat → Nat → Int32} {a : Nat} {cs : List Int32} {post : Int32 → Prop} (hs : isStr h a cs) (ho : okS cs) (hp : post (numOf cs)) : wX1_numberOf post gp ad a F M h := by
  have hl := hs.len
  obtain ⟨t, fs, hc⟩ := hs.cell
  have key : ∀ (d i : Nat) (v : Int32), i + d = cs.length → post ((cs.drop i).foldl (fun v c => 10 * v + c - 48) v) → wX1_numberOf_b4 post gp ad a F M h (d + 1) v (Int32.ofNat i) := by
    intro d
    induction d with
    | zero =>
      intro i v hid hq
      rw [List.drop_eq_nil_of_le (by omega)] at hq
      exact ⟨_, _, hc, pJ9_length hs ⟨fun _ => hq, fun z => absurd ((zi_le (by omega) (by omega)).mpr (by omega)) z⟩⟩
    | succ d ih =>
      intro i v hid hq
      obtain ⟨g1, g2, g3⟩ := ho.get (i := i) (by omega)
      rw [g3, List.foldl_cons] at hq
      refine ⟨_, _, hc, pJ9_length hs ⟨fun z => ?_, fun _ => ⟨_, _, hc, pJ9_charAt hs (by omega) g1 g2 ?_⟩⟩⟩
      · rw [zi_le (by omega) (by omega)] at z; omega
      · rw [zi_succ]
        exact ih (i + 1) _ (by omega) hq
  exact ⟨cs.length + 1, key cs.length 0 0 (by omega) hp⟩
