set_option maxRecDepth 100000
/-! PURE PART 34: the component: answer, close, DATA -/
theorem x_hs_hs (h : x_H) (a t t' : Nat) (e e' : x_E) : x_hs (x_hs h a t e) a t' e' = x_hs h a t' e' := by
  funext z
  by_cases hz : z = a <;> simp [x_hs, hz]
/-- a stream's cell written: RC -/
theorem RC.mod {gp ad : Nat → Nat} {hb h : x_H} {F : Nat → Int32} {M : Nat → Nat → Int32} {s : SS} {ss qs : List Nat} {a : Nat} {st : St} {e : x_E} {f : St → St} {n : Int32} (hB : Bs gp hb) (hR : RC gp ad hb F M h s) (hw : HW gp ad h s.sts ss qs) (hi : InvS s.sts) (ha : a ∈ ss) (hst : isSt h a st) (hs : st ∈ s.sts) (hn : st.num = n) (hnew : isSt (x_hs h a 20 e) a (f st)) : RC gp ad hb F M (x_hs h a 20 e) (SS.modSt n f s) ∧ HW gp ad (x_hs h a 20 e) (SS.modSt n f s).sts ss qs := by
  obtain ⟨b, ma, pa, ms, a1, -⟩ := id hst
  have hk : kp [20] h (x_hs h a 20 e) := kp.set a1 (by simp)
  have hm := hw.mod hi ha hst hs hn a1 hnew
  obtain ⟨hF, hb0, hpg, -, hfl, hfx, hcm, hsb⟩ := hR
  exact ⟨⟨hF.cong rfl rfl, hB.kpt hb0 hk (by decide), hpg.kpt hk (by decide), hm.st, hfl.elim fun fs h => ⟨fs, h.kpt hk (by decide)⟩, hfx.kpt hk (by decide), hcm.kpt hk (by decide), hsb.kpt hk (by decide)⟩, hm⟩
theorem methOf_HEAD (l : List Int32) : (l = ascii [72, 69, 65, 68] → methOf l = 1) ∧ (l = ascii [71, 69, 84] → methOf l = 0) ∧ (l ≠ ascii [72, 69, 65, 68] → l ≠ ascii [71, 69, 84] → methOf l = 2) := by
  refine ⟨fun e => by rw [e]; decide, fun e => by rw [e]; decide, fun h1 h2 => by unfold methOf; rw [if_neg h2, if_neg h1]⟩
theorem c_answer {gp ad : Nat → Nat} {hb h : x_H} {F : Nat → Int32} {M : Nat → Nat → Int32} {s : SS} {ss qs : List Nat} {a : Nat} {st : St} {mc ms : Nat} {post : (Nat → Int32) → (Nat → Nat → Int32) → x_H → Prop} (hB : Bs gp hb) (hR : RC gp ad hb F M h s) (hw : HW gp ad h s.sts ss qs) (hI : Inv s) (ha : a ∈ ss) (hst : isSt h a st) (hs : st ∈ s.sts) (h0 : 0 ≤ s.g 53) (h1 : s.g 53 ≤ 1190) (hmc : 1 ≤ mc) (hms : 20 ≤ ms)
    (hp : ∀ F' M' h', RC gp ad hb F' M' h' (SS.answer st s) → post F' M' h') : wX1_answer post gp ad a F M h mc ms := by
  have hsz := ansSize_ok (s := s) (st := st) hI.pages
  obtain ⟨b, ma, pa, msx, a1, a2, a3, a4, a5⟩ := id hst
  obtain ⟨tm, fm, cm⟩ := a3.cell
  have ea : SS.answer st s = (let size := ansSize st (ansPage st s); let s1 := SS.head (if st.meth = 2 then 5 else 1) 1 (if size = 0 then 5 else 4) st.num s; let s2 := if st.meth = 2 then SS.say 53 (SS.say 48 (SS.say 52 (SS.say 3 (SS.say 6 s1)))) else SS.say (if (ansPage st s).isSome then 134 else 135) s1; let s3 := SS.modSt st.num (fun q => (q.set 16 size).set 17 (if size = 0 then 0 else pgByte (ansPage st s))) s2; if size = 0 then SS.over st.num s3 else s3) := rfl
  rw [ea] at hp
  dsimp only at hp
  -- the row
  have tail : ∀ (F1 : Nat → Int32) (M1 : Nat → Nat → Int32) (s1 : SS) (x4 : Option Nat), RC gp ad hb F1 M1 h s1 → s1.sts = s.sts → ((x4 = none ∧ ansPage st s = none) ∨ ∃ p q, isPg h p q ∧ x4 = some p ∧ ansPage st s = some q) →
      (∀ F' M' h', RC gp ad hb F' M' h' (if ansSize st (ansPage st s) = 0 then SS.over st.num (SS.modSt st.num (fun q => (q.set 16 (ansSize st (ansPage st s))).set 17 (if ansSize st (ansPage st s) = 0 then 0 else pgByte (ansPage st s))) s1) else SS.modSt st.num (fun q => (q.set 16 (ansSize st (ansPage st s))).set 17 (if ansSize st (ansPage st s) = 0 then 0 else pgByte (ansPage st s))) s1) → post F' M' h') → wX1_answer_b156 post gp ad a F1 M1 h mc ms x4 (ansSize st (ansPage st s)) := by
    intro F1 M1 s1 x4 hR1 e1 hx hpp
    generalize hsize : ansSize st (ansPage st s) = x at hsz hpp ⊢
    refine ⟨20, _, a1, by decide, by show (4 : Nat) < 9; decide, ?_⟩
    intro h2 eh2
    have c2 := (congrFun eh2 a).trans (x_hs_self _ _ _ _)
    have fin : ∀ y : Int32, y = (if x = 0 then 0 else pgByte (ansPage st s)) → wX1_answer_b177 post gp ad a F1 M1 h2 mc ms x y := by
      intro y hy
      rw [← hy] at hpp
      refine ⟨20, _, c2, by decide, by show (5 : Nat) < 9; decide, ?_⟩
      intro h3 eh3
      rw [eh2, x_hs_hs] at eh3
      have hw1 : HW gp ad h s1.sts ss qs := by rw [e1]; exact hw
      have hnew : isSt h3 a ((st.set 16 x).set 17 y) := by
        have hk : kp [20] h h3 := by rw [eh3]; exact kp.set a1 (by simp)
        refine ⟨y, ma, pa, msx, ?_, fun _ => by simp [St.rw], a3.kpt hk (by decide) (by decide), by rw [a4]; simp [St.rw], ?_⟩
        · rw [eh3, x_hs_self]; simp [St.rw]
        · exact a5.kpt hk (by decide) (by decide)
      have hm := hR1.mod hB hw1 (by rw [e1]; exact hI.sts) ha hst (by rw [e1]; exact hs) rfl (f := fun q => (q.set 16 x).set 17 y) (by rw [← eh3]; exact hnew)
      rw [← eh3] at hm
      obtain ⟨m1, m2⟩ := hm
      have hi3 : InvS (SS.modSt st.num (fun q => (q.set 16 x).set 17 y) s1).sts := by
        rw [modSt_rw.2.2.2.2, e1]
        exact hI.sts.mod fun q hq e => ⟨by simp [St.rw], by simpa [St.rw] using hsz, by simpa [St.rw] using hI.sts.closed q hq, by simpa [St.rw] using hI.sts.meth q hq⟩
      refine ⟨fun z => ?_, fun z => ?_⟩
      · rw [if_pos z] at hpp
        obtain ⟨b', ma', pa', ms', d1, -⟩ := hnew
        refine ⟨_, ⟨_, _, d1, rfl⟩, mc, ms, 0, 0, by omega, by omega, ?_⟩
        have en : ((st.set 16 x).set 17 y).num = st.num := by simp [St.rw]
        rw [en]
        exact c_over hB m1 hi3 hmc hms fun h' hr => hpp _ _ _ hr
      · rw [if_neg z] at hpp
        exact hpp _ _ _ m1
    refine ⟨fun z => fin 0 (by rw [if_pos z]), fun z => ?_⟩
    rcases hx with ⟨-, e⟩ | ⟨p, q, hpq, rfl, e⟩
    · exact absurd (by rw [← hsize, e]; unfold ansSize; split <;> rfl) z
    · obtain ⟨sa, p1, p2⟩ := hpq
      have hk : kp [20] h h2 := by rw [eh2]; exact kp.set a1 (by simp)
      have p1' := hk _ _ _ (by decide) p1
      refine ⟨p, rfl, _, _, p1', _, ⟨_, _, p1', rfl⟩, fin _ ?_⟩
      rw [if_neg z, e]; rfl
  -- head and what follows
  have b94 : ∀ (x4 : Option Nat), ((x4 = none ∧ ansPage st s = none) ∨ ∃ p q, isPg h p q ∧ x4 = some p ∧ ansPage st s = some q) → ∀ x3 : Int32, (x3 = 0 ↔ st.meth = 2) → wX1_answer_b70 post gp ad a F M h mc ms x3 x4 (ansSize st (ansPage st s)) := by
    intro x4 hx x3 hx3
    have core : ∀ s0 s3 : Int32, (4 : Int32) ||| s0 = (if ansSize st (ansPage st s) = 0 then 5 else 4) → s3 = (if st.meth = 2 then 5 else 1) → wX1_answer_b94 post gp ad a F M h mc ms x3 x4 (ansSize st (ansPage st s)) s0 s3 := by
      intro s0 s3 e0 e3
      refine ⟨_, ⟨_, _, a1, rfl⟩, ?_⟩
      rw [e0, e3]
      refine c_head hR h0 (by lia) fun F1 M1 hR1 k1 => ⟨fun z => ?_, fun z => ?_⟩
      · have hm2 := hx3.mp z
        simp only [hm2, if_true] at hR1 hp
        refine c_say hR1 ?_ ?_ fun F2 M2 hR2 k2 => c_say hR2 ?_ ?_ fun F3 M3 hR3 k3 => c_say hR3 ?_ ?_ fun F4 M4 hR4 k4 => c_say hR4 ?_ ?_ fun F5 M5 hR5 k5 => c_say hR5 ?_ ?_ fun F6 M6 hR6 k6 => ?_
        any_goals (simp only [say_rw, head_rw, if_true]; lia)
        exact tail F6 M6 _ x4 hR6 rfl hx hp
      · have hm2 : st.meth ≠ 2 := fun q => z (hx3.mpr q)
        simp only [if_neg hm2] at hR1 hp
        have say1 : ∀ c : Int32, c = (if (ansPage st s).isSome then 134 else 135) → wX1_answer_b121 post gp ad a F1 M1 h mc ms x4 (ansSize st (ansPage st s)) c := by
          intro c hc
          rw [← hc] at hp
          refine c_say hR1 ?_ ?_ fun F2 M2 hR2 k2 => tail F2 M2 _ x4 hR2 rfl hx hp
          · simp only [head_rw, if_true]; lia
          · simp only [head_rw, if_true]; lia
        refine ⟨fun e => ?_, fun p e => ?_⟩
        · rcases hx with ⟨w1, w2⟩ | ⟨p, q, -, w, -⟩
          · rw [w1] at say1; exact say1 135 (by rw [w2]; rfl)
          · rw [e] at w; cases w
        · rcases hx with ⟨w1, w2⟩ | ⟨p', q, -, w, w2⟩
          · rw [e] at w1; cases w1
          · rw [e] at say1; exact say1 134 (by rw [w2]; rfl)
    have two : ∀ s3 : Int32, s3 = (if st.meth = 2 then 5 else 1) → wX1_answer_b82 post gp ad a F M h mc ms x3 x4 (ansSize st (ansPage st s)) s3 := fun s3 e3 =>
      ⟨fun z => core 1 s3 (by rw [if_pos z]; decide) e3, fun z => core 0 s3 (by rw [if_neg z]; decide) e3⟩
    exact ⟨fun z => two 5 (by rw [if_pos (hx3.mp z)]), fun z => two 1 (by rw [if_neg (fun q => z (hx3.mpr q))])⟩
  -- the page
  have b33 : ∀ x2 x3 : Int32, (x2 = 0 ↔ st.meth ≠ 1) → (x3 = 0 ↔ st.meth = 2) → wX1_answer_b33 post gp ad a F M h mc ms x2 x3 := by
    intro x2 x3 hx2 hx3
    have b50 : ∀ x4 : Option Nat, ((x4 = none ∧ ansPage st s = none) ∨ ∃ p q, isPg h p q ∧ x4 = some p ∧ ansPage st s = some q) → wX1_answer_b50 post gp ad a F M h mc ms x2 x3 x4 := by
      intro x4 hx
      have hb := b94 x4 hx x3 hx3
      refine ⟨fun z => ⟨fun e => ?_, fun p e => ?_⟩, fun z => ?_⟩
      · rcases hx with ⟨w1, w2⟩ | ⟨p, q, -, w, -⟩
        · have : ansSize st (ansPage st s) = 0 := by rw [w2]; unfold ansSize; split <;> rfl
          rw [this, w1] at hb; exact hb
        · rw [e] at w; cases w
      · rcases hx with ⟨w1, w2⟩ | ⟨p', q, hpq, w, w2⟩
        · rw [e] at w1; cases w1
        · rw [w] at e; cases e
          have hm0 : st.meth = 0 := by
            rcases hI.sts.meth st hs with m | m | m
            · exact m
            · exact absurd m (hx2.mp z)
            · unfold ansPage at w2; rw [if_pos m] at w2; cases w2
          have es : ansSize st (ansPage st s) = q.2.1 := by rw [w2]; unfold ansSize; rw [if_pos hm0]; rfl
          rw [es, w] at hb
          obtain ⟨sa, p1, p2⟩ := hpq
          exact ⟨_, _, p1, _, ⟨_, _, p1, rfl⟩, hb⟩
      · have hm1 : st.meth = 1 := Decidable.byContradiction fun q => z (hx2.mpr q)
        have : ansSize st (ansPage st s) = 0 := by unfold ansSize; rw [if_neg (by rw [hm1]; decide)]
        rw [this] at hb; exact hb
    refine ⟨fun z => b50 none (Or.inl ⟨rfl, ?_⟩), fun z => ⟨some pa, ⟨_, _, a1, rfl⟩, pa, rfl, ?_⟩⟩
    · unfold ansPage; rw [if_pos (hx3.mp z)]
    · have ea : ansPage st s = s.pageAt st.path := by unfold ansPage; rw [if_neg (fun q => z (hx3.mpr q))]
      exact c_pageAt hR.2.2.1 a5 (fun e => b50 none (Or.inl ⟨rfl, by rw [ea]; exact e⟩)) fun p q e hpq => b50 (some p) (Or.inr ⟨p, q, hpq, rfl, by rw [ea]; exact e⟩)
  have hsH : isStr h (gp 12) (ascii [72, 69, 65, 68]) := hB.2.2.2.2.2.1.bs hR.2.1
  have hsG : isStr h (gp 11) (ascii [71, 69, 84]) := hB.2.2.2.2.1.bs hR.2.1
  obtain ⟨m1, m2, m3⟩ := methOf_HEAD msx
  rw [a4] at m1 m2 m3
  refine ⟨some ma, ⟨_, _, a1, rfl⟩, ma, rfl, _, _, cm, pJ9_equals a3 hsH (fun e => ⟨fun z => absurd z (by decide), fun _ => ?_⟩) (fun e => ⟨fun _ => ⟨some ma, ⟨_, _, a1, rfl⟩, ma, rfl, _, _, cm, pJ9_equals a3 hsG (fun e2 => ⟨fun z => absurd z (by decide), fun _ => ?_⟩) (fun e2 => ⟨fun _ => ?_, fun z => absurd rfl z⟩)⟩, fun z => absurd rfl z⟩)⟩
  · have hm := m1 e
    exact b33 1 1 (by rw [hm]; decide) (by rw [hm]; decide)
  · have hm := m2 e2
    exact b33 0 1 (by rw [hm]; decide) (by rw [hm]; decide)
  · have hm := m3 e e2
    exact b33 0 0 (by rw [hm]; decide) (by rw [hm]; decide)
