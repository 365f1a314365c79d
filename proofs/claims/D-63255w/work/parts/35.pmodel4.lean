set_option maxRecDepth 100000
/-! PURE PART 9: the model: answer, close, DATA -/
theorem i2 : ¬ (2 : Int32) ≤ 0 ∧ ¬ (2 : Int32) ≤ 1 ∧ (2 : Int32) ≤ 2 := by decide
theorem m_answer {G : Nat → Int32} {N : Nat → Nat → Int32} {s : SS} {st : St} {j : Nat} {post : (Nat → Int32) → (Nat → Nat → Int32) → Prop} (h : RM G N s) {σ : List Nat} (hσ : RMs N σ s.sts) (hi : InvS s.sts) (hip : InvP s.pages) (hs : st ∈ s.sts) (hj : j ∈ σ) (hsl : slot N j st) (h0 : 0 ≤ s.g 53) (h1 : s.g 53 ≤ 1190)
    (hp : ∀ G' N', RM G' N' (SS.answer st s) → post G' N') : wX6_answer post (Int32.ofNat j) G N := by
  have j4 := hσ.lt j hj
  have v4 : vp_in (Int32.ofNat j) 4 := zi_in j4 (by decide)
  have ez : (Int32.ofNat j).toNatClampNeg = j := zi_nat (by omega)
  have hmt : N 19 j = st.meth := hsl.f 19
  have hsz := ansSize_ok (s := s) (st := st) hip
  -- what is said, and the row
  have tail : ∀ (G1 : Nat → Int32) (N1 : Nat → Nat → Int32) (s1 : SS) (x2 : Int32), RM G1 N1 s1 → k54 N N1 → s1.sts = s.sts → s1.pages = s.pages → ((x2 = -1 ∧ ansPage st s = none) ∨ ∃ i q, s.pages[i]? = some q ∧ x2 = Int32.ofNat i ∧ ansPage st s = some q) →
      (∀ G' N', RM G' N' (if ansSize st (ansPage st s) = 0 then SS.over st.num (SS.modSt st.num (fun q => (q.set 16 (ansSize st (ansPage st s))).set 17 (if ansSize st (ansPage st s) = 0 then 0 else pgByte (ansPage st s))) s1) else SS.modSt st.num (fun q => (q.set 16 (ansSize st (ansPage st s))).set 17 (if ansSize st (ansPage st s) = 0 then 0 else pgByte (ansPage st s))) s1) → post G' N') → wX6_answer_b153 post (Int32.ofNat j) G1 N1 x2 (ansSize st (ansPage st s)) := by
    intro G1 N1 s1 x2 hr k1 e1 e2 hx hpp
    have hσ1 : RMs N1 σ s1.sts := by rw [e1]; exact hσ.cong fun k hk => k1 k (by revert hk; simp; omega)
    unfold wX6_answer_b153
    rw [ez]
    refine ⟨v4, fun z => ?_, fun z => ?_⟩
    · rw [if_pos z] at hpp
      simp only [if_pos z] at hpp
      rw [z]
      refine m_answer_end hr hσ1 (by rw [e1]; exact hi) (by rw [e1]; exact hs) hj (k1.slot hsl) (by decide) ?_
      rw [if_pos rfl, ← z, z]
      intro G' N' hR
      refine hpp G' N' ?_
      rw [z]; exact hR
    · simp only [if_neg z] at hpp
      rcases hx with ⟨-, e⟩ | ⟨i, q, e3, e4, e5⟩
      · exact absurd (by unfold ansSize; rw [e]; split <;> rfl) z
      · have hi8 : i < 8 := by
          have := (List.getElem?_eq_some_iff.mp e3).1
          have := hip.1
          omega
        rw [e4]
        refine ⟨zi_in hi8 (by decide), ?_⟩
        have hb : N1 5 i = pgByte (ansPage st s) := by
          rw [e5]
          exact (hr.pg.2 i q (by rw [e2]; exact e3)).2.2.2.2
        rw [zi_nat (by omega), hb]
        refine m_answer_end hr hσ1 (by rw [e1]; exact hi) (by rw [e1]; exact hs) hj (k1.slot hsl) hsz ?_
        rw [if_neg z]
        exact hpp
  -- behind the page's look-up
  have core : ∀ x2 : Int32, ((x2 = -1 ∧ ansPage st s = none) ∨ ∃ i q, s.pages[i]? = some q ∧ x2 = Int32.ofNat i ∧ ansPage st s = some q) → wX6_answer_b32 post (Int32.ofNat j) G N x2 := by
    intro x2 hx
    have hx1 : x2 = -1 ↔ ansPage st s = none := by
      rcases hx with ⟨e1, e2⟩ | ⟨i, q, e1, e2, e3⟩
      · simp [e1, e2]
      · have : i < 8 := by
          have := (List.getElem?_eq_some_iff.mp e1).1
          have := hip.1
          omega
        simp [e2, e3, zi_neg1 (show i < 2147483648 by omega)]
    have b57 : wX6_answer_b57 post (Int32.ofNat j) G N x2 (ansSize st (ansPage st s)) := by
      have b84 : wX6_answer_b84 post (Int32.ofNat j) G N x2 (ansSize st (ansPage st s)) (if ansSize st (ansPage st s) = 0 then 5 else 4) (if st.meth = 2 then 5 else 1) := by
        unfold wX6_answer_b84
        rw [ez, hsl.num]
        refine ⟨v4, m_head h h0 (by lia) fun G1 N1 hr k1 => ⟨v4, fun hm => ?_, fun hm => ?_⟩⟩
        all_goals rw [k1 19 (by decide), hmt] at hm
        · have hm2 : st.meth = 2 := by
            rcases hi.meth st hs with e | e | e
            · rw [e] at hm; exact absurd hm i2.1
            · rw [e] at hm; exact absurd hm i2.2.1
            · exact e
          simp only [hm2, if_true] at hr
          refine m_say hr ?_ ?_ fun G2 N2 hr k2 => m_say hr ?_ ?_ fun G2 N2 hr k3 => m_say hr ?_ ?_ fun G2 N2 hr k4 => m_say hr ?_ ?_ fun G2 N2 hr k5 => m_say hr ?_ ?_ fun G2 N2 hr k6 => ?_
          any_goals (simp only [say_rw, head_rw, if_true]; lia)
          refine tail G2 N2 _ x2 hr (((((k1.tr k2).tr k3).tr k4).tr k5).tr k6) rfl rfl hx fun G' N' hR => hp G' N' ?_
          unfold SS.answer
          simp only [hm2, if_true]
          exact hR
        · have hm2 : st.meth ≠ 2 := fun e => hm (by rw [e]; exact i2.2.2)
          simp only [if_neg hm2] at hr
          have say1 : ∀ c : Int32, c = (if (ansPage st s).isSome then 134 else 135) → wX6_answer_b118 post (Int32.ofNat j) G1 N1 x2 (ansSize st (ansPage st s)) c := by
            intro c hc
            refine m_say hr ?_ ?_ fun G2 N2 hr k2 => tail G2 N2 _ x2 hr (k1.tr k2) rfl rfl hx fun G' N' hR => hp G' N' ?_
            · simp only [head_rw, if_true]; lia
            · simp only [head_rw, if_true]; lia
            · unfold SS.answer
              simp only [if_neg hm2]
              rw [← hc]
              exact hR
          refine ⟨fun e => say1 135 ?_, fun e => say1 134 ?_⟩
          · rw [hx1.mp e]; rfl
          · have : ansPage st s ≠ none := fun w => e (hx1.mpr w)
            cases hq : ansPage st s with
            | none => exact absurd hq this
            | some q => rfl
      unfold wX6_answer_b57
      rw [ez, hmt]
      refine ⟨v4, fun hm => ?_, fun hm => ?_⟩
      · have hm2 : st.meth = 2 := by
          rcases hi.meth st hs with e | e | e
          · rw [e] at hm; exact absurd hm i2.1
          · rw [e] at hm; exact absurd hm i2.2.1
          · exact e
        simp only [hm2, if_true] at b84
        refine ⟨fun z => ?_, fun z => ?_⟩
        · rw [if_pos z] at b84; exact b84
        · rw [if_neg z] at b84; exact b84
      · have hm2 : st.meth ≠ 2 := fun e => hm (by rw [e]; exact i2.2.2)
        simp only [if_neg hm2] at b84
        refine ⟨fun z => ?_, fun z => ?_⟩
        · rw [if_pos z] at b84; exact b84
        · rw [if_neg z] at b84; exact b84
    unfold wX6_answer_b32
    rw [ez, hmt]
    refine ⟨v4, fun hm => ⟨fun z => ?_, fun z => ?_⟩, fun hm => ?_⟩
    · have e : ansSize st (ansPage st s) = 0 := by rw [hx1.mp z]; unfold ansSize; rw [if_pos hm]; rfl
      rw [e] at b57; exact b57
    · rcases hx with ⟨e, -⟩ | ⟨i, q, e1, e2, e3⟩
      · exact absurd e z
      · have hi8 : i < 8 := by
          have := (List.getElem?_eq_some_iff.mp e1).1
          have := hip.1
          omega
        rw [e2, zi_nat (by omega)]
        have : N 4 i = ansSize st (ansPage st s) := by
          rw [e3]; unfold ansSize; rw [if_pos hm]
          exact (h.pg.2 i q e1).2.2.2.1
        rw [this]
        rw [e2] at b57
        exact ⟨zi_in hi8 (by decide), b57⟩
    · have e : ansSize st (ansPage st s) = 0 := by unfold ansSize; rw [if_neg hm]
      rw [e] at b57; exact b57
  unfold wX6_answer
  rw [ez, hmt]
  refine ⟨v4, fun hm => core (-1) (Or.inl ⟨rfl, ?_⟩), fun hm => ⟨v4, ?_⟩⟩
  · have hm2 : st.meth = 2 := by
      rcases hi.meth st hs with e | e | e
      · rw [e] at hm; exact absurd hm i2.1
      · rw [e] at hm; exact absurd hm i2.2.1
      · exact e
    unfold ansPage; rw [if_pos hm2]
  · have hm2 : st.meth ≠ 2 := fun e => hm (by rw [e]; exact i2.2.2)
    have ea : ansPage st s = s.pageAt st.path := by unfold ansPage; rw [if_neg hm2]
    rw [zi_mulL j 20 20 rfl, hsl.2.2.1]
    refine m_pageOf h hip.1 (path := st.path) (fun k hk => hsl.2.2.2.1 k hk) ?_ (by decide) (fun e => core _ (Or.inl ⟨rfl, by rw [ea]; exact e⟩)) fun i q e1 e2 => core _ (Or.inr ⟨i, q, e2, rfl, by rw [ea]; exact e1⟩)
    have : st.path.length ≤ 20 := hsl.2.2.2.2
    omega
theorem mod_find {l : List St} {n : Int32} {f : St → St} (hf : ∀ st ∈ l, st.num = n → (f st).num = st.num) : (l.map (fun st => if st.num = n then f st else st)).find? (fun st => st.num == n) = (l.find? (fun st => st.num == n)).map f := by
  induction l with
  | nil => rfl
  | cons a l ih =>
    have ih := ih fun st hs => hf st (by simp [hs])
    rw [List.map_cons, List.find?_cons, List.find?_cons]
    by_cases e : a.num = n
    · have e2 : (f a).num = n := by rw [hf a (by simp) e, e]
      simp [e, e2]
    · have e' : (a.num == n) = false := by simpa using e
      rw [if_neg e, e']; exact ih
theorem modSt_rw : (∀ (n : Int32) (f : St → St) (s : SS), (SS.modSt n f s).g = s.g) ∧ (∀ (n : Int32) (f : St → St) (s : SS), (SS.modSt n f s).a = s.a) ∧ (∀ (n : Int32) (f : St → St) (s : SS), (SS.modSt n f s).pages = s.pages) ∧ (∀ (n : Int32) (f : St → St) (s : SS), (SS.modSt n f s).came = s.came) ∧ (∀ (n : Int32) (f : St → St) (s : SS), (SS.modSt n f s).sts = s.sts.map (fun st => if st.num = n then f st else st)) :=
  ⟨fun _ _ _ => rfl, fun _ _ _ => rfl, fun _ _ _ => rfl, fun _ _ _ => rfl, fun _ _ _ => rfl⟩
/-- one array's row of a stream written -/
theorem RM.row {G : Nat → Int32} {N : Nat → Nat → Int32} {s : SS} {σ : List Nat} (h : RM G N s) (hσ : RMs N σ s.sts) (hi : InvS s.sts) {n : Int32} {j : Nat} (hj : j ∈ σ) (hn : N 12 j = n) (k : Nat) (x : Int32) (f : St → St) (hf : ∀ st ∈ s.sts, slot N j st → f st = st.set k x) (hk : k ∈ [13, 14, 18] := by decide) :
    RM G (va_up N k (upd (N k) j x)) (SS.modSt n f s) ∧ RMs (va_up N k (upd (N k) j x)) σ (SS.modSt n f s).sts := by
  have hm : RMs (va_up N k (upd (N k) j x)) σ (s.sts.map (fun q => if q.num = n then f q else q)) := by
    refine hσ.mod hi (n := n) (j := j) hj hn ?_ ?_ ?_ ?_
    · intro k' hk' i hij
      by_cases e : k' = k
      · subst e; simp [va_up, upd, hij]
      · simp [va_up, e]
    · have : (21 : Nat) ≠ k := by revert hk; simp; omega
      simp [va_up, this]
    · have : (12 : Nat) ≠ k := by revert hk; simp; omega
      simp [va_up, this]
    · intro st hs r
      rw [hf st hs r]
      refine ⟨fun k' hk' => ?_, fun hl => ?_, ?_, fun i hi => ?_, r.2.2.2.2⟩
      · by_cases e : k' = k
        · subst e; simp [va_up, upd, St.set]
        · simp [va_up, upd, St.set, e]; exact r.1 k' hk'
      · have e1 : (17 : Nat) ≠ k := by revert hk; simp; omega
        have e2 : (16 : Nat) ≠ k := by revert hk; simp; omega
        simp only [va_up, if_neg e1, St.rw] at hl ⊢
        rw [if_neg e2] at hl
        exact r.2.1 hl
      · have e1 : (20 : Nat) ≠ k := by revert hk; simp; omega
        simp only [va_up, if_neg e1]; exact r.2.2.1
      · have e1 : (21 : Nat) ≠ k := by revert hk; simp; omega
        simp only [va_up, if_neg e1]; exact r.2.2.2.1 i hi
  refine ⟨h.sts hm fun k' hk' => ?_, hm⟩
  have : k' ≠ k := by revert hk hk'; simp; omega
  simp [va_up, this]
theorem m_close {G : Nat → Int32} {N : Nat → Nat → Int32} {s : SS} {st : St} {j : Nat} {post : Int32 → (Nat → Int32) → (Nat → Nat → Int32) → Prop} (h : RM G N s) {σ : List Nat} (hσ : RMs N σ s.sts) (hi : InvS s.sts) (hip : InvP s.pages) {n : Int32} (hn : st.num = n) (hf : s.find n = some st) (hj : j ∈ σ) (hsl : slot N j st) (h0 : 0 ≤ s.g 53) (h1 : s.g 53 ≤ 1190)
    (hp : ∀ G' N', RM G' N' (SS.close n s).2 → post (SS.close n s).1 G' N') : wX6_close post (Int32.ofNat j) G N := by
  subst hn
  have j4 := hσ.lt j hj
  have v4 : vp_in (Int32.ofNat j) 4 := zi_in j4 (by decide)
  have ez : (Int32.ofNat j).toNatClampNeg = j := zi_nat (by omega)
  have hs : st ∈ s.sts := (find_some hf).1
  obtain ⟨r1, r2⟩ := h.row hσ hi hj hsl.num 18 1 (fun q => q.set 18 1) (fun q hq hqs => rfl)
  have hi1 : InvS (SS.modSt st.num (fun q => q.set 18 1) s).sts := hi.mod fun q hq e => ⟨by simp [St.rw], by simpa [St.rw] using hi.left q hq, by simp [St.rw], by simpa [St.rw] using hi.meth q hq⟩
  have hf1 : (SS.modSt st.num (fun q => q.set 18 1) s).find st.num = some (st.set 18 1) := by
    unfold SS.find
    rw [show (SS.modSt st.num (fun q => q.set 18 1) s).sts = s.sts.map (fun q => if q.num = st.num then q.set 18 1 else q) from rfl, mod_find fun q _ _ => by simp [St.rw]]
    have : s.sts.find? (fun q => q.num == st.num) = some st := hf
    rw [this]; rfl
  have hs1 := (find_some hf1).1
  have hsl1 : slot (va_up N 18 (upd (N 18) j 1)) j (st.set 18 1) := by
    obtain ⟨j', q1, q2, q3, q4⟩ := r2.at hi1 hs1
    have : j' = j := (q4 j j4 (by simp only [va_up, if_neg (show (12 : Nat) ≠ 18 by decide), St.rw]; exact hsl.num)).symm
    rw [this] at q3; exact q3
  unfold wX6_close
  rw [ez, show N 15 j = st.len from hsl.f 15, show N 14 j = st.cnt from hsl.f 14]
  have ecl : SS.close st.num s = if st.len = -1 ∨ st.len = st.cnt then (0, SS.answer (st.set 18 1) (SS.modSt st.num (fun q => q.set 18 1) s)) else (101, SS.modSt st.num (fun q => q.set 18 1) s) := by
    unfold SS.close
    simp only [hf1]
    rfl
  have ans : (st.len = -1 ∨ st.len = st.cnt) → wX6_close_b35 post (Int32.ofNat j) G (va_up N 18 (upd (N 18) j 1)) := by
    intro hc
    rw [ecl, if_pos hc] at hp
    exact m_answer r1 r2 hi1 hip hs1 hj hsl1 h0 h1 hp
  refine ⟨v4, v4, fun e => ans (Or.inl e), fun e => ⟨v4, v4, fun e' => ans (Or.inr e'), fun e' => ?_⟩⟩
  rw [ecl, if_neg (fun q => q.elim e e')] at hp
  exact hp _ _ r1
theorem m_unpad {G : Nat → Int32} {N : Nat → Nat → Int32} {s : SS} {post : Int32 → (Nat → Int32) → (Nat → Nat → Int32) → Prop} (h : RM G N s)
    (hp : ∀ G' N', RM G' N' s.unpad.2 → post (if s.unpad.1 = true then 1 else 0) G' N') : wX6_unpad post G N := by
  have e28 : ∀ x : Int32, upd G 29 x 28 = s.g 28 := fun x => by rw [show upd G 29 x 28 = G 28 from rfl, h.f 28]
  have e24 : N 24 = s.a 24 := h.a 24
  have b77 : ∀ (x : Int32) (b : Bool), x = (if b = true then 1 else 0) → s.unpad.1 = b → ∀ (f t : Int32), s.unpad.2 = (s.p 29 f).p 30 t → wX6_unpad_b77 post (upd G 29 f) N x t := by
    intro x b hx hb f t e
    refine ⟨by rw [hx]; cases b <;> decide, ?_⟩
    have hR := (h.set 29 f).set 30 t
    rw [← e] at hR
    have := hp _ _ hR
    rw [hb, ← hx] at this
    exact this
  refine m_has h (by simp) (fun hh => ⟨fun z => absurd z (by decide), fun _ => ?_⟩) (fun hh => ⟨fun _ => ⟨fun _ => ⟨fun _ => ?_, fun z => absurd rfl z⟩, fun z => absurd rfl z⟩, fun z => absurd rfl z⟩)
  · have eu : s.unpad = if 0 < s.g 28 ∧ s.a 24 4 < s.g 28 then (true, (s.p 29 1).p 30 (s.g 28 - s.a 24 4)) else (false, (s.p 29 1).p 30 (s.g 28)) := by unfold SS.unpad; rw [if_pos hh]
    have e4 : N 24 ((4 : Int32).toNatClampNeg) = s.a 24 4 := by rw [e24]; rfl
    rw [h.f 28, e4]
    have bad : ¬ (0 < s.g 28 ∧ s.a 24 4 < s.g 28) → wX6_unpad_b35 post G N 1 := fun hc => by
      rw [if_neg hc] at eu
      refine ⟨fun z => absurd z (by decide), fun _ => ⟨fun z => absurd z (by decide), fun _ => ⟨fun _ => ?_, fun z => absurd rfl z⟩⟩⟩
      unfold wX6_unpad_b73
      rw [e28]
      exact b77 0 false rfl (by rw [eu]) 1 _ (by rw [eu])
    refine ⟨fun z => bad (by lia), fun z => ⟨fun w => bad (by lia), fun w => ?_⟩⟩
    rw [if_pos (by lia)] at eu
    refine ⟨fun z => absurd z (by decide), fun _ => ⟨fun z => absurd z (by decide), fun _ => ⟨fun z => absurd z (by decide), fun _ => ?_⟩⟩⟩
    rw [h.f 28, e4]
    exact b77 1 true rfl (by rw [eu]) 1 _ (by rw [eu])
  · have eu : s.unpad = (true, (s.p 29 0).p 30 (s.g 28)) := by unfold SS.unpad; rw [if_neg hh]
    unfold wX6_unpad_b73
    rw [e28]
    exact b77 1 true rfl (by rw [eu]) 0 _ (by rw [eu])
