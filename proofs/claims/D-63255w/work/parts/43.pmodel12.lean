set_option maxRecDepth 100000
/-! PURE PART 17: the model judges a field (3) -/
theorem asc_m : ascii [58, 109] = [58, 109] := rfl
theorem asc_p : ascii [58, 112] = [58, 112] := rfl
theorem okC.at {e : En} (ho : okC e) {k : Nat} (hk : k < e.2.length) : 0 ≤ e.2.getD k 0 ∧ e.2.getD k 0 ≤ 127 := ho.2 _ (getD_mem hk)
/-- the value at 16 goes into 46 -/
theorem m_j145 {N : Nat → Nat → Int32} {e : En} {post : (Nat → Int32) → (Nat → Nat → Int32) → Prop} {F : Nat → Int32} (hr : rowE N 16 e) (ho : okC e) (hp : ∀ N', (∀ k, k ≠ 46 → N' k = N k) → (∀ k, k < e.2.length → N' 46 k = e.2.getD k 0) → post F N') : ∃ n, wX6_judge_b145 post n F N 0 := by
  refine ⟨21, ?_⟩
  have key : ∀ (d k : Nat) (N1 : Nat → Nat → Int32), k + d = 20 → (∀ q, q ≠ 46 → N1 q = N q) → (∀ j, j < k → j < e.2.length → N1 46 j = e.2.getD j 0) → wX6_judge_b145 post (d + 1) F N1 (Int32.ofNat k) := by
    intro d
    induction d with
    | zero =>
      intro k N1 hk q0 qk
      refine ⟨fun _ => hp N1 q0 fun j hj => qk j (by have := hr.2.1; omega) hj, fun z => absurd ?_ z⟩
      rw [show (20 : Int32) = Int32.ofNat 20 from rfl, zi_le (by omega) (by omega)]; omega
    | succ d ih =>
      intro k N1 hk q0 qk
      have e320 : (320 : Int32) + Int32.ofNat k = Int32.ofNat (320 + k) := zi_addL k 320 320 rfl
      refine ⟨fun z => ?_, fun _ => ⟨by rw [e320]; exact zi_in (by omega) (by decide), zi_in (by omega) (by decide), ?_⟩⟩
      · rw [show (20 : Int32) = Int32.ofNat 20 from rfl, zi_le (by omega) (by omega)] at z; omega
      rw [e320, zi_nat (by omega), zi_nat (by omega), zi_succ]
      refine ih (k + 1) _ (by omega) (fun q hq => by simp [va_up, hq]; exact q0 q hq) (fun j hj hj2 => ?_)
      by_cases hjk : j = k
      · subst hjk
        simp [va_up, upd]
        rw [q0 11 (by decide), hr.2.2.2.2.2 j hj2]
        have := ho.at hj2
        exact zi_nch this.1 (by lia)
      · simp [va_up, upd, hjk]; exact qk j (by omega) hj2
  exact key 20 0 N rfl (fun _ _ => rfl) fun j hj => by omega
/-- the letters of a name -/
theorem m_j183 {N : Nat → Nat → Int32} {e : En} {post : (Nat → Int32) → (Nat → Nat → Int32) → Prop} (hr : rowE N 16 e) : ∀ (d k : Nat) (F : Nat → Int32), k + d = e.1.length → (F 39 = 0 → ∀ j, j < k → isLet (e.1.getD j 0) = true) → (F 39 = 0 ∨ F 39 = 1) →
    (∀ F', (∀ q, q ≠ 39 → F' q = F q) → (F' 39 = if F 39 = 0 ∧ e.1.all isLet = true then 0 else 1) → wX6_judge_b232 post F' N) → wX6_judge_b183 post (d + 1) F N (Int32.ofNat k) := by
  have hl := hr.1
  intro d
  induction d with
  | zero =>
    intro k F hk hj hb hp
    refine ⟨fun _ => hp F (fun _ _ => rfl) ?_, fun z => absurd ?_ z⟩
    · rcases hb with h | h
      · rw [if_pos ⟨h, all_getD.mpr fun j hj' => hj h j (by omega)⟩]; exact h
      · rw [if_neg (fun w => by rw [h] at w; exact absurd w.1 (by decide))]; exact h
    · rw [z16, hr.2.2.1, zi_le (by omega) (by omega)]; omega
  | succ d ih =>
    intro k F hk hj hb hp
    have e320 : (320 : Int32) + Int32.ofNat k = Int32.ofNat (320 + k) := zi_addL k 320 320 rfl
    have hk2 : k < e.1.length := by omega
    have upd39 : ∀ x : Int32, (x = 0 ∨ x = 1) → (F 39 = 0 ∧ e.1.all isLet = true ↔ x = 0 ∧ e.1.all isLet = true) → (x = 0 → ∀ j, j < k + 1 → isLet (e.1.getD j 0) = true) → wX6_judge_b183 post (d + 1) (upd F 39 x) N (Int32.ofNat k + 1) := by
      intro x hx hiff hj'
      rw [zi_succ]
      refine ih (k + 1) _ (by omega) (fun h j hjk => hj' (by simpa [upd] using h) j hjk) (by simpa [upd] using hx) fun F' q1 q2 => hp F' (fun q hq => by rw [q1 q hq]; simp [upd, hq]) ?_
      have e1 : upd F 39 x 39 = x := by simp [upd]
      rw [q2, e1]
      simp only [hiff]
    refine ⟨fun z => ?_, fun _ => ⟨fun z => ⟨by rw [e320]; exact zi_in (by omega) (by decide), ?_⟩, fun z => ⟨Or.inr rfl, ?_⟩⟩⟩
    · rw [z16, hr.2.2.1, zi_le (by omega) (by omega)] at z; omega
    · rw [e320, zi_nat (by omega), hr.2.2.2.2.1 k hk2]
      refine m_isLetter (fun hc => ⟨fun q => absurd q (by decide), fun _ => ⟨Or.inl rfl, ?_⟩⟩) (fun hc => ⟨fun _ => ⟨Or.inr rfl, ?_⟩, fun q => absurd rfl q⟩)
      · refine upd39 0 (Or.inl rfl) (by simp [z]) fun _ j hjk => ?_
        by_cases e2 : j = k
        · rw [e2]; exact hc
        · exact hj z j (by omega)
      · refine upd39 1 (Or.inr rfl) ?_ fun q => absurd q (by decide)
        have : e.1.all isLet ≠ true := fun q => by
          have := all_getD.mp q k hk2
          rw [hc] at this; cases this
        simp [this]
    · have z1 : F 39 = 1 := hb.resolve_left z
      exact upd39 1 (Or.inr rfl) (by simp [z1]) fun q => absurd q (by decide)
theorem m_judge {G : Nat → Int32} {N : Nat → Nat → Int32} {s : SS} {fs : List En} {e : En} {post : (Nat → Int32) → (Nat → Nat → Int32) → Prop} (h : RM G N s) (hr : rowE N 16 e) (ho : okC e) (h1 : 1 ≤ e.1.length) (hs : SJ G N fs)
    (hp : ∀ G' N', RM G' N' s → SJ G' N' (fs ++ [e]) → g5 G G' → (∀ k, k ≠ 46 → N' k = N k) → post G' N') : wX6_judge post G N := by
  obtain ⟨hc, hj⟩ := hs
  have e320 : N 9 320 = e.1.getD 0 0 := hr.2.2.2.2.1 0 (by omega)
  -- from a new colon on
  have b26 : ∀ c0 : Int32, (c0 = if colon (fs ++ [e]) = true then 1 else 0) → wX6_judge_b26 post G N c0 := by
    intro c0 hc0
    have hbit : x_bit c0 := by
      rw [hc0]
      by_cases q : colon (fs ++ [e]) = true
      · rw [if_pos q]; exact Or.inr rfl
      · rw [if_neg q]; exact Or.inl rfl
    -- the summary behind
    have fin : ∀ (G' : Nat → Int32) (N' : Nat → Nat → Int32), G' 40 = c0 → g5 G G' → (∀ k, k ≠ 46 → N' k = N k) → SJa G' N' ((judgeAll fs acc0).bind (fun q => judge q e)) → post G' N' := by
      intro G' N' h40 hg hN hja
      have hR : RM G' N' s := by
        have := (h.g5 hg).arr 46 (N' 46)
        have ee : va_up N 46 (N' 46) = N' := by
          funext k
          by_cases q : k = 46
          · subst q; simp [va_up]
          · simp [va_up, q]; exact (hN k q).symm
        rw [ee] at this; exact this
      exact hp G' N' hR ⟨by rw [h40, hc0], by rw [judgeAll_app]; exact hja⟩ hg hN
    have m39 : G 39 = 0 ∨ G 39 = 1 := by
      cases hq : judgeAll fs acc0 with
      | none => rw [hq] at hj; exact Or.inr hj
      | some a => rw [hq] at hj; exact Or.inl hj.1
    have bad39 : G 39 ≠ 0 → judgeAll fs acc0 = none := fun q => by
      cases hq : judgeAll fs acc0 with
      | none => rfl
      | some a => rw [hq] at hj; exact absurd hj.1 q
    have noneb : judgeAll fs acc0 = none → (judgeAll fs acc0).bind (fun q => judge q e) = none := fun q => by rw [q]; rfl
    have some39 : G 39 = 0 → ∃ a, judgeAll fs acc0 = some a := fun q => by
      cases hq : judgeAll fs acc0 with
      | none => rw [hq] at hj; rw [hj] at q; exact absurd q (by decide)
      | some a => exact ⟨a, rfl⟩
    have pm : e.1 = [58, 109] → e.1 ≠ [58, 112] := fun q => by rw [q]; decide
    refine ⟨hbit, m_isNamed hr (fun em => m_isNamed hr (fun ep => absurd ep (pm em)) (fun _ => ⟨fun z => absurd z (by decide), fun _ => ?_⟩)) (fun nm => m_isNamed hr (fun ep => ⟨fun _ => ⟨fun z => absurd z (by decide), fun _ => ?_⟩, fun z => absurd rfl z⟩) (fun np => ⟨fun _ => ⟨fun _ => ?_, fun z => absurd rfl z⟩, fun z => absurd rfl z⟩))⟩
    · -- :m
      have jm : ∀ a : Acc, judge a e = if a.2.2.2 = false ∧ a.1 = none then some (some e.2, a.2) else none := fun a => by
        unfold judge; rw [asc_m, if_pos em]
      have b79 : ∀ x : Int32, x_bit x → (x = 1 → (judgeAll fs acc0).bind (fun q => judge q e) = none) → (x = 0 → ∃ a, judgeAll fs acc0 = some a ∧ a.2.2.2 = false ∧ a.1 = none) → wX6_judge_b79 post (upd G 40 c0) N x := by
        intro x hx hx1 hx0
        refine ⟨hx, m_methodOf (row0 h) hr (fin _ N (by simp [upd]) (fun k hk => by simp at hk; simp [upd, hk]) (fun _ _ => rfl) ?_)⟩
        rcases hx with rfl | rfl
        · obtain ⟨a, ha, ha1, ha2⟩ := hx0 rfl
          rw [ha] at hj ⊢
          show SJa _ _ (judge a e)
          rw [jm, if_pos ⟨ha1, ha2⟩]
          obtain ⟨s1, s2, s3, s4, s5, s6⟩ := hj
          exact ⟨by simp [upd], by simp [upd]; exact s2, by simp [upd], by simp [upd]; exact s4, fun pa hpa => by simp [upd]; exact s5 pa hpa, by simp [upd]; exact s6⟩
        · rw [hx1 rfl]; simp [SJa, upd]
      have b74 : (∀ a, judgeAll fs acc0 = some a → ¬ (a.2.2.2 = false ∧ a.1 = none)) → wX6_judge_b74 post (upd G 40 c0) N := fun hb => by
        refine b79 1 (Or.inr rfl) (fun _ => ?_) (fun z => absurd z (by decide))
        cases hq : judgeAll fs acc0 with
        | none => rfl
        | some a => show judge a e = none; rw [jm, if_neg (hb a hq)]
      refine ⟨fun (z : G 39 = 0) => ⟨fun (w : G 41 = 0) => ⟨fun (y : G 42 = -1) => ?_, fun (y : ¬ G 42 = -1) => ?_⟩, fun (w : ¬ G 41 = 0) => ?_⟩, fun (z : ¬ G 39 = 0) => ?_⟩
      · obtain ⟨a, ha⟩ := some39 z
        rw [ha] at hj
        obtain ⟨s1, s2, s3, s4, s5, s6⟩ := hj
        refine b79 0 (Or.inl rfl) (fun q => absurd q (by decide)) fun _ => ⟨a, ha, ?_, ?_⟩
        · rw [w] at s2
          cases q : a.2.2.2 with
          | false => rfl
          | true => rw [q] at s2; exact absurd s2 (by decide)
        · rw [y] at s3
          cases q : a.1 with
          | none => rfl
          | some m => rw [q] at s3; exact absurd s3.symm (methOf_ne m).1
      · refine b74 fun a ha hh => y ?_
        rw [ha] at hj
        rw [hj.2.2.1, hh.2]
      · refine b74 fun a ha hh => w ?_
        rw [ha] at hj
        rw [hj.2.1, hh.1]; rfl
      · refine b74 fun a ha hh => ?_
        rw [bad39 z] at ha; cases ha
    · -- :p
      have jp : ∀ a : Acc, judge a e = if a.2.2.2 = false ∧ a.2.1 = none then some (a.1, some e.2, a.2.2) else none := fun a => by
        unfold judge; rw [asc_m, asc_p, if_neg nm, if_pos ep]
      have b124 : ∀ x : Int32, x_bit x → (x = 1 → (judgeAll fs acc0).bind (fun q => judge q e) = none) → (x = 0 → ∃ a, judgeAll fs acc0 = some a ∧ a.2.2.2 = false ∧ a.2.1 = none) → wX6_judge_b124 post (upd G 40 c0) N x := by
        intro x hx hx1 hx0
        refine ⟨hx, ?_⟩
        refine m_j145 hr ho fun N' hN hq => fin _ N' (by simp [upd]) (fun k hk => by simp at hk; simp [upd, hk]) hN ?_
        rcases hx with rfl | rfl
        · obtain ⟨a, ha, ha1, ha2⟩ := hx0 rfl
          rw [ha] at hj ⊢
          show SJa _ _ (judge a e)
          rw [jp, if_pos ⟨ha1, ha2⟩]
          obtain ⟨s1, s2, s3, s4, s5, s6⟩ := hj
          exact ⟨by simp [upd], by simp [upd]; exact s2, by simp [upd]; exact s3, by simp [upd], fun pa hpa => by
            cases hpa
            refine ⟨?_, hr.2.1, hq⟩
            rw [z16]; simp [upd]; exact hr.2.2.2.1, by simp [upd]; exact s6⟩
        · rw [hx1 rfl]; simp [SJa, upd]
      have b119 : (∀ a, judgeAll fs acc0 = some a → ¬ (a.2.2.2 = false ∧ a.2.1 = none)) → wX6_judge_b119 post (upd G 40 c0) N := fun hb => by
        refine b124 1 (Or.inr rfl) (fun _ => ?_) (fun z => absurd z (by decide))
        cases hq : judgeAll fs acc0 with
        | none => rfl
        | some a => show judge a e = none; rw [jp, if_neg (hb a hq)]
      refine ⟨fun (z : G 39 = 0) => ⟨fun (w : G 41 = 0) => ⟨fun (y : G 43 = 0) => ?_, fun (y : ¬ G 43 = 0) => ?_⟩, fun (w : ¬ G 41 = 0) => ?_⟩, fun (z : ¬ G 39 = 0) => ?_⟩
      · obtain ⟨a, ha⟩ := some39 z
        rw [ha] at hj
        obtain ⟨s1, s2, s3, s4, s5, s6⟩ := hj
        refine b124 0 (Or.inl rfl) (fun q => absurd q (by decide)) fun _ => ⟨a, ha, ?_, ?_⟩
        · rw [w] at s2
          cases q : a.2.2.2 with
          | false => rfl
          | true => rw [q] at s2; exact absurd s2 (by decide)
        · rw [y] at s4
          cases q : a.2.1 with
          | none => rfl
          | some m => rw [q] at s4; exact absurd (show (0 : Int32) = 1 from s4) (by decide)
      · refine b119 fun a ha hh => y ?_
        rw [ha] at hj
        rw [hj.2.2.2.1, hh.2]; rfl
      · refine b119 fun a ha hh => w ?_
        rw [ha] at hj
        rw [hj.2.1, hh.1]; rfl
      · refine b119 fun a ha hh => ?_
        rw [bad39 z] at ha; cases ha
    · -- others
      have jo : ∀ a : Acc, judge a e = if e.1.all isLet = true then (if e.1 = ascii [108, 101, 110, 103, 116, 104] then (if a.2.2.1 = -1 ∧ isNum e.2 = true then some (a.1, a.2.1, numOf e.2, true) else none) else some (a.1, a.2.1, a.2.2.1, true)) else none := fun a => by
        unfold judge; rw [asc_m, asc_p, if_neg nm, if_neg np]
      have hG39 : upd (upd G 40 c0) 41 1 39 = G 39 := by simp [upd]
      refine ⟨e.1.length + 1, m_j183 hr e.1.length 0 _ (by omega) (fun _ j hj => by omega) (by rw [hG39]; exact m39) fun F' q1 q2 => ?_⟩
      rw [hG39] at q2
      have f40 : F' 40 = c0 := by rw [q1 40 (by decide)]; simp [upd]
      have fo : ∀ k, k ∉ [39, 40, 41] → F' k = G k := fun k hk => by
        simp at hk
        rw [q1 k hk.1]; simp [upd, hk]
      refine m_isLength (row4 h) hr (fun el => ⟨fun z => absurd z (by decide), fun _ => m_judgeLength hr ho (fun a1 a2 a3 G' b1 b2 b3 => ?_) (fun a1 G' b1 b2 => ?_)⟩) (fun nl => ⟨fun _ => ?_, fun z => absurd rfl z⟩)
      · -- a length that counts
        refine fin G' N (by rw [b1 40 (by decide) (by decide)]; exact f40) (fun k hk => ?_) (fun _ _ => rfl) ?_
        · simp at hk
          rw [b1 k (by simp [hk]) (by simp [hk]), fo k (by simp [hk])]
        · rw [a1] at q2
          have hh : G 39 = 0 ∧ e.1.all isLet = true := Decidable.byContradiction fun w => by rw [if_neg w] at q2; exact absurd q2 (by decide)
          obtain ⟨a, ha⟩ := some39 hh.1
          rw [ha] at hj ⊢
          obtain ⟨s1, s2, s3, s4, s5, s6⟩ := hj
          show SJa _ _ (judge a e)
          rw [jo, if_pos hh.2, if_pos el, if_pos ⟨by rw [← s6, ← fo 44 (by decide)]; exact a2, a3⟩]
          refine ⟨b2, ?_, ?_, ?_, fun pa hpa => ?_, b3⟩
          · rw [b1 41 (by decide) (by decide), q1 41 (by decide)]; simp [upd]
          · rw [b1 42 (by decide) (by decide), fo 42 (by decide)]; exact s3
          · rw [b1 43 (by decide) (by decide), fo 43 (by decide)]; exact s4
          · rw [b1 45 (by decide) (by decide), fo 45 (by decide)]; exact s5 pa hpa
      · refine fin G' N (by rw [b1 40 (by decide) (by decide)]; exact f40) (fun k hk => ?_) (fun _ _ => rfl) ?_
        · simp at hk
          rw [b1 k (by simp [hk]) (by simp [hk]), fo k (by simp [hk])]
        · have : (judgeAll fs acc0).bind (fun q => judge q e) = none := by
            cases hq : judgeAll fs acc0 with
            | none => rfl
            | some a =>
              show judge a e = none
              rw [hq] at hj
              obtain ⟨s1, s2, s3, s4, s5, s6⟩ := hj
              rw [jo]
              by_cases hlt : e.1.all isLet = true
              · rw [if_pos hlt, if_pos el, if_neg]
                rintro ⟨c1, c2⟩
                rcases a1 with w | w | w
                · rw [if_pos ⟨s1, hlt⟩] at q2; exact w q2
                · rw [fo 44 (by decide), s6] at w; exact w c1
                · rw [c2] at w; cases w
              · rw [if_neg hlt]
          rw [this]; exact b2
      · refine fin F' N f40 (fun k hk => ?_) (fun _ _ => rfl) ?_
        · simp at hk
          exact fo k (by simp [hk])
        · cases hq : judgeAll fs acc0 with
          | none =>
            rw [hq] at hj
            show F' 39 = 1
            rw [q2, if_neg (fun w => by rw [hj] at w; exact absurd w.1 (by decide))]
          | some a =>
            rw [hq] at hj
            obtain ⟨s1, s2, s3, s4, s5, s6⟩ := hj
            show SJa _ _ (judge a e)
            rw [jo]
            by_cases hlt : e.1.all isLet = true
            · rw [if_pos hlt, if_neg nl]
              rw [if_pos ⟨s1, hlt⟩] at q2
              refine ⟨q2, ?_, ?_, ?_, fun pa hpa => ?_, ?_⟩
              · rw [q1 41 (by decide)]; simp [upd]
              · rw [fo 42 (by decide)]; exact s3
              · rw [fo 43 (by decide)]; exact s4
              · rw [fo 45 (by decide)]; exact s5 pa hpa
              · rw [fo 44 (by decide)]; exact s6
            · rw [if_neg hlt]
              show F' 39 = 1
              rw [q2, if_neg (fun w => hlt w.2)]
  have e58 : (320 : Int32).toNatClampNeg = 320 := z320
  refine ⟨fun z => ⟨fun w => b26 1 ?_, fun w => b26 0 ?_⟩, fun z => b26 1 ?_⟩
  · rw [e58, e320] at w; rw [colon_app]; simp only [w]; simp
  · rw [e58, e320] at w
    have : colon fs = false := by
      cases q : colon fs with
      | false => rfl
      | true => rw [q] at hc; rw [hc] at z; exact absurd z (by decide)
    rw [colon_app, this]; simp; simpa using w
  · have : colon fs = true := by
      cases q : colon fs with
      | true => rfl
      | false => rw [q] at hc; exact absurd hc z
    rw [colon_app, this]; simp
