set_option maxRecDepth 100000
/-! PURE PART 20: the model: a request -/
theorem judgeAll_path : ∀ (fs : List En) {a0 a : Acc} {pa : List Int32}, judgeAll fs a0 = some a → a.2.1 = some pa → a0.2.1 = some pa ∨ ∃ e ∈ fs, e.2 = pa
  | [], a0, a, pa, h, hp => by cases h; exact Or.inl hp
  | e :: fs, a0, a, pa, h, hp => by
    have h' : (judge a0 e).bind (judgeAll fs) = some a := h
    cases hq : judge a0 e with
    | none => rw [hq] at h'; cases h'
    | some b =>
      rw [hq] at h'
      rcases judgeAll_path fs h' hp with w | ⟨x, hx, hx2⟩
      · unfold judge at hq
        split at hq
        · split at hq
          · cases hq; exact Or.inl w
          · cases hq
        · split at hq
          · split at hq
            · cases hq
              exact Or.inr ⟨e, by simp, by simpa using w⟩
            · cases hq
          · split at hq
            · split at hq
              · split at hq
                · cases hq; exact Or.inl w
                · cases hq
              · cases hq; exact Or.inl w
            · cases hq
      · exact Or.inr ⟨x, by simp [hx], hx2⟩
theorem rdLoop_ok {n : Nat} : ∀ (d i : Nat) (s : SS) (fs : List En), i ≤ n → Inv s → (∀ e ∈ fs, okE e) → Inv (SS.rdLoop n d i s fs).2.1 ∧ (∀ e ∈ (SS.rdLoop n d i s fs).2.2, okE e) ∧ (SS.rdLoop n d i s fs).2.2.length ≤ fs.length + d ∧ (∀ k, k ≠ 7 → (SS.rdLoop n d i s fs).2.1.g k = s.g k) ∧ (SS.rdLoop n d i s fs).2.1.a = s.a ∧ (SS.rdLoop n d i s fs).2.1.pages = s.pages ∧ (SS.rdLoop n d i s fs).2.1.sts = s.sts
  | 0, i, s, fs, hi, hI, hf => ⟨hI, hf, Nat.le_refl _, fun _ _ => rfl, rfl, rfl, rfl⟩
  | d + 1, i, s, fs, hi, hI, hf => by
    have el : SS.rdLoop n (d + 1) i s fs = if i < n then (match s.rdStep n (s.a 35 i).toNatClampNeg (i + 1) fs with
        | none => (false, s, fs)
        | some q => SS.rdLoop n d q.2.2 q.1 q.2.1) else (true, s, fs) := rfl
    rw [el]
    by_cases hc : i < n
    · rw [if_pos hc]
      cases hq : s.rdStep n (s.a 35 i).toNatClampNeg (i + 1) fs with
      | none => exact ⟨hI, hf, Nat.le_add_right _ _, fun _ _ => rfl, rfl, rfl, rfl⟩
      | some q =>
        obtain ⟨r1, r2, r3, r4, r5, r6, r7, r8, r9⟩ := rdStep_ok hI (show i + 1 ≤ n by omega) hq
        obtain ⟨t1, t2, t3, t4, t5, t6, t7⟩ := rdLoop_ok d q.2.2 q.1 q.2.1 r5 r1 (r2 hf)
        exact ⟨t1, t2, Nat.le_trans t3 (by omega), fun k hk => (t4 k hk).trans (r6 k hk), t5.trans r7, t6.trans r8, t7.trans r9⟩
    · rw [if_neg hc]; exact ⟨hI, hf, Nat.le_add_right _ _, fun _ _ => rfl, rfl, rfl, rfl⟩
theorem readBlock_ok {s : SS} (hI : Inv s) : Inv s.readBlock.2.1 ∧ (∀ e ∈ s.readBlock.2.2, okE e) ∧ s.readBlock.2.2.length ≤ 100 ∧ (∀ k, k ≠ 7 → s.readBlock.2.1.g k = s.g k) ∧ s.readBlock.2.1.a = s.a ∧ s.readBlock.2.1.pages = s.pages ∧ s.readBlock.2.1.sts = s.sts := by
  obtain ⟨n, hn1, en⟩ := zi_nn (m := 100) hI.g34.1 (by decide) hI.g34.2
  have er : s.readBlock = SS.rdLoop n n 0 s [] := by unfold SS.readBlock; rw [en, zi_nat (by omega)]
  rw [er]
  obtain ⟨t1, t2, t3, t4, t5, t6, t7⟩ := rdLoop_ok n 0 s [] (Nat.zero_le _) hI (fun e he => by cases he)
  exact ⟨t1, t2, by simp at t3; omega, t4, t5, t6, t7⟩
theorem InvS.app {l : List St} (h : InvS l) {st : St} (hl : l.length < 4) (hn : 0 < st.num ∧ st.num ≤ 255) (hf : ∀ q ∈ l, q.num ≠ st.num) (h1 : 0 ≤ st.left ∧ st.left ≤ 60) (h2 : st.closed = 0 ∨ st.closed = 1) (h3 : st.meth = 0 ∨ st.meth = 1 ∨ st.meth = 2) : InvS (l ++ [st]) := by
  have app : ∀ (p : St → Prop), (∀ q ∈ l, p q) → p st → ∀ q ∈ l ++ [st], p q := fun p hp hs q hq => by
    rcases List.mem_append.mp hq with hq | hq
    · exact hp q hq
    · rw [List.mem_singleton.mp hq]; exact hs
  refine ⟨by rw [List.length_append]; show l.length + 1 ≤ 4; omega, ?_, app _ h.num hn, app _ h.left h1, app _ h.closed h2, app _ h.meth h3⟩
  rw [List.pairwise_append]
  refine ⟨h.ne, List.pairwise_singleton _ _, fun a ha b hb => ?_⟩
  rw [List.mem_singleton.mp hb]; exact hf a ha
theorem find_app {l : List St} {st : St} (hf : ∀ q ∈ l, q.num ≠ st.num) : (l ++ [st]).find? (fun q => q.num == st.num) = some st := by
  rw [List.find?_append]
  have : l.find? (fun q => q.num == st.num) = none := List.find?_eq_none.mpr fun q hq => by simpa using hf q hq
  rw [this]; simp
theorem newSt_rw (a b c d : Int32) (p : List Int32) : (newSt a b c d p).num = a ∧ (newSt a b c d p).win = b ∧ (newSt a b c d p).cnt = 0 ∧ (newSt a b c d p).len = c ∧ (newSt a b c d p).left = 0 ∧ (newSt a b c d p).b = 0 ∧ (newSt a b c d p).closed = 0 ∧ (newSt a b c d p).meth = d ∧ (newSt a b c d p).path = p :=
  ⟨rfl, rfl, rfl, rfl, rfl, rfl, rfl, rfl, rfl⟩
theorem m_request {G : Nat → Int32} {N : Nat → Nat → Int32} {s : SS} {fs : List En} {post : Int32 → (Nat → Int32) → (Nat → Nat → Int32) → Prop} (h : RM G N s) (hI : Inv s) (hs : SJ G N fs) (hfs : ∀ e ∈ fs, okE e) (hn0 : 0 < s.g 27) (hf : s.find (s.g 27) = none) (h0 : 0 ≤ s.g 53) (h1 : s.g 53 ≤ 1190)
    (hp : ∀ G' N', RM G' N' (SS.request fs s).2 → post (SS.request fs s).1 G' N') : wX6_request post G N := by
  obtain ⟨σ, hσ⟩ := h.st
  have hi := hI.sts
  have h47 : RM (upd G 47 (G 27)) N (s.p 47 (s.g 27)) := by rw [h.f 27]; exact h.set 47 _
  have hl4 := hi.len
  have er : SS.request fs s = if 4 ≤ s.sts.length then (107, s.p 47 (s.g 27)) else match judgeAll fs acc0 with
      | some (some m, some pa, len, _) => (if s.g 33 = 0 then (0, (s.p 47 (s.g 27)).ws ((s.p 47 (s.g 27)).sts ++ [newSt (s.g 27) (s.g 51) len (methOf m) pa])) else SS.close (s.g 27) ((s.p 47 (s.g 27)).ws ((s.p 47 (s.g 27)).sts ++ [newSt (s.g 27) (s.g 51) len (methOf m) pa])))
      | _ => (101, s.p 47 (s.g 27)) := rfl
  refine m_open hσ hi ⟨fun z => ?_, fun z => ?_⟩
  · have : s.sts.length = 4 := (zi_eq (a := s.sts.length) (b := 4) (by omega) (by decide)).mp z
    rw [er, if_pos (by omega)] at hp
    exact hp _ _ h47
  · have hlt : s.sts.length < 4 := by
      have : s.sts.length ≠ 4 := fun w => z (by rw [w]; rfl)
      omega
    rw [er, if_neg (by omega)] at hp
    have bad : (∀ m pa len o, judgeAll fs acc0 ≠ some (some m, some pa, len, o)) → wX6_request_b41 post (upd G 47 (G 27)) N := fun hno => by
      have : ∀ {α : Type} (x : α) (f : List Int32 → List Int32 → Int32 → Bool → α), (match judgeAll fs acc0 with
        | some (some m, some pa, len, o) => f m pa len o
        | _ => x) = x := by
        intro α x f
        split
        · exact absurd ‹_› (hno _ _ _ _)
        · rfl
      rw [this] at hp
      exact hp _ _ h47
    obtain ⟨hc, hj⟩ := hs
    refine ⟨fun e39 => ⟨fun e42 => bad fun m pa len o hq => ?_, fun e42 => ⟨fun e43 => bad fun m pa len o hq => ?_, fun e43 => ?_⟩⟩, fun e39 => bad fun m pa len o hq => ?_⟩
    · rw [hq] at hj
      have : G 42 = methOf m := hj.2.2.1
      rw [this] at e42
      exact (methOf_ne m).1 e42
    · rw [hq] at hj
      have : G 43 = 1 := hj.2.2.2.1
      rw [this] at e43
      exact absurd e43 (by decide)
    · -- it is taken
      cases hq : judgeAll fs acc0 with
      | none => rw [hq] at hj; have e39 : G 39 = 0 := e39; rw [show G 39 = 1 from hj] at e39; exact absurd e39 (by decide)
      | some a =>
        obtain ⟨am, ap, len, o⟩ := a
        rw [hq] at hj hp
        obtain ⟨s1, s2, s3, s4, s5, s6⟩ := hj
        cases am with
        | none => exact absurd s3 e42
        | some m =>
          cases ap with
          | none => exact absurd s4 e43
          | some pa =>
            have hp : ∀ G' N', RM G' N' (if s.g 33 = 0 then ((0 : Int32), (s.p 47 (s.g 27)).ws ((s.p 47 (s.g 27)).sts ++ [newSt (s.g 27) (s.g 51) len (methOf m) pa])) else SS.close (s.g 27) ((s.p 47 (s.g 27)).ws ((s.p 47 (s.g 27)).sts ++ [newSt (s.g 27) (s.g 51) len (methOf m) pa]))).2 → post (if s.g 33 = 0 then ((0 : Int32), (s.p 47 (s.g 27)).ws ((s.p 47 (s.g 27)).sts ++ [newSt (s.g 27) (s.g 51) len (methOf m) pa])) else SS.close (s.g 27) ((s.p 47 (s.g 27)).ws ((s.p 47 (s.g 27)).sts ++ [newSt (s.g 27) (s.g 51) len (methOf m) pa]))).1 G' N' := hp
            have s3 : G 42 = methOf m := s3
            have s6 : G 44 = len := s6
            obtain ⟨p1, p2, p3⟩ := s5 pa rfl
            have pch : ∀ c ∈ pa, 33 ≤ c ∧ c ≤ 126 := by
              rcases judgeAll_path fs hq rfl with w | ⟨e, he, rfl⟩
              · cases w
              · exact (hfs e he).2.2.2.2
            -- the first free slot
            have hfree : ∃ j, j < 4 ∧ j ∉ σ ∧ ∀ i, i < j → i ∈ σ := by
              have hc4 := cnt4 σ hσ.nd hσ.lt
              rw [hσ.all.len] at hc4
              by_cases q0 : 0 ∈ σ
              · by_cases q1 : 1 ∈ σ
                · by_cases q2 : 2 ∈ σ
                  · by_cases q3 : 3 ∈ σ
                    · simp [q0, q1, q2, q3] at hc4; omega
                    · exact ⟨3, by decide, q3, fun i hi3 => by rcases (show i = 0 ∨ i = 1 ∨ i = 2 by omega) with rfl | rfl | rfl <;> assumption⟩
                  · exact ⟨2, by decide, q2, fun i hi3 => by rcases (show i = 0 ∨ i = 1 by omega) with rfl | rfl <;> assumption⟩
                · exact ⟨1, by decide, q1, fun i hi3 => (show i = 0 by omega) ▸ q0⟩
              · exact ⟨0, by decide, q0, fun i hi3 => by omega⟩
            obtain ⟨j, j4, jn, jl⟩ := hfree
            have pos : ∀ i, i ∈ σ → ¬ N 12 i ≤ 0 := fun i hiσ w => by
              obtain ⟨st, q1, q2⟩ := hσ.all.mem hiσ
              have := (hi.num st q1).1
              rw [q2.num] at w
              lia
            have hz : N 12 j ≤ 0 := by rw [hσ.out j j4 jn]; decide
            have ez : (Int32.ofNat j).toNatClampNeg = j := zi_nat (by omega)
            have v4 : vp_in (Int32.ofNat j) 4 := zi_in j4 (by decide)
            -- the slot filled
            have b61 : wX6_request_b61 post (upd G 47 (G 27)) N (Int32.ofNat j) := by
              refine ⟨v4, v4, v4, v4, v4, v4, v4, v4, 21, ?_⟩
              rw [ez]
              have f27 : upd G 47 (G 27) 27 = s.g 27 := h.f 27
              have f51 : upd G 47 (G 27) 51 = s.g 51 := h.f 51
              have f44 : upd G 47 (G 27) 44 = len := s6
              have f42 : upd G 47 (G 27) 42 = methOf m := s3
              have f45 : upd G 47 (G 27) 45 = Int32.ofNat pa.length := p1
              rw [f27, f51, f44, f42, f45]
              have key : ∀ (d k : Nat) (N1 : Nat → Nat → Int32), k + d = 20 → (∀ q, q ∉ [12, 13, 14, 15, 16, 18, 19, 20, 21] → N1 q = N q) → N1 12 = upd (N 12) j (s.g 27) → N1 13 = upd (N 13) j (s.g 51) → N1 14 = upd (N 14) j 0 → N1 15 = upd (N 15) j len → N1 16 = upd (N 16) j 0 → N1 18 = upd (N 18) j 0 → N1 19 = upd (N 19) j (methOf m) → N1 20 = upd (N 20) j (Int32.ofNat pa.length) → (∀ x, (x < 20 * j ∨ 20 * j + 20 ≤ x) → N1 21 x = N 21 x) → (∀ x, x < k → x < pa.length → N1 21 (20 * j + x) = pa.getD x 0) → wX6_request_b134 post (d + 1) (upd G 47 (G 27)) N1 (Int32.ofNat j) (Int32.ofNat k) := by
                intro d
                induction d with
                | zero =>
                  intro k N1 hk q0 q12 q13 q14 q15 q16 q18 q19 q20 qx qk
                  refine ⟨fun _ => ?_, fun w => absurd ?_ w⟩
                  · have hslot : slot N1 j (newSt (s.g 27) (s.g 51) len (methOf m) pa) := by
                      refine ⟨fun k' hk' => ?_, fun w => absurd rfl w, by rw [q20]; simp [upd, newSt], fun x hx => qk x (Nat.lt_of_lt_of_le hx p2 |> fun w => by omega) hx, p2⟩
                      simp at hk'
                      rcases hk' with rfl | rfl | rfl | rfl | rfl | rfl | rfl
                      · rw [q12]; simp [upd, newSt]
                      · rw [q13]; simp [upd, newSt]
                      · rw [q14]; simp [upd, newSt]
                      · rw [q15]; simp [upd, newSt]
                      · rw [q16]; simp [upd, newSt]
                      · rw [q18]; simp [upd, newSt]
                      · rw [q19]; simp [upd, newSt]
                    have hs' : RMs N1 (σ ++ [j]) (s.sts ++ [newSt (s.g 27) (s.g 51) len (methOf m) pa]) := by
                      refine ⟨All2.append (hσ.all.imp fun i st hi1 hst r => ?_) ⟨hslot, trivial⟩, ?_, fun i hi1 => ?_, fun i i4 hi1 => ?_⟩
                      · have hij : i ≠ j := fun w => jn (by rw [← w]; exact hi1)
                        have i4 := hσ.lt i hi1
                        refine ⟨fun k' hk' => ?_, fun w => ?_, ?_, fun x hx => ?_, r.2.2.2.2⟩
                        · simp at hk'
                          rcases hk' with rfl | rfl | rfl | rfl | rfl | rfl | rfl
                          · rw [q12]; simp [upd, hij]; exact r.f 12
                          · rw [q13]; simp [upd, hij]; exact r.f 13
                          · rw [q14]; simp [upd, hij]; exact r.f 14
                          · rw [q15]; simp [upd, hij]; exact r.f 15
                          · rw [q16]; simp [upd, hij]; exact r.f 16
                          · rw [q18]; simp [upd, hij]; exact r.f 18
                          · rw [q19]; simp [upd, hij]; exact r.f 19
                        · rw [q0 17 (by decide)]; exact r.2.1 w
                        · rw [q20]; simp [upd, hij]; exact r.2.2.1
                        · have := r.2.2.2.2
                          rw [qx _ (by omega)]; exact r.2.2.2.1 x hx
                      · rw [List.nodup_append]
                        refine ⟨hσ.nd, by simp, fun a ha b hb => ?_⟩
                        rw [List.mem_singleton.mp hb]
                        exact fun w => jn (by rw [← w]; exact ha)
                      · rcases List.mem_append.mp hi1 with w | w
                        · exact hσ.lt i w
                        · rw [List.mem_singleton.mp w]; exact j4
                      · rw [q12]
                        have a1 : i ∉ σ := fun w => hi1 (List.mem_append_left _ w)
                        have a2 : i ≠ j := fun w => hi1 (by rw [w]; simp)
                        simp [upd, a2]; exact hσ.out i i4 a1
                    have hR : RM (upd G 47 (G 27)) N1 ((s.p 47 (s.g 27)).ws ((s.p 47 (s.g 27)).sts ++ [newSt (s.g 27) (s.g 51) len (methOf m) pa])) := h47.sts hs' fun k' hk' => q0 k' (by simp at hk' ⊢; omega)
                    have hnone : ∀ q ∈ s.sts, q.num ≠ s.g 27 := find_none hf
                    have hi2 : InvS (s.sts ++ [newSt (s.g 27) (s.g 51) len (methOf m) pa]) := hi.app hlt ⟨hn0, (hI.r 27).2⟩ hnone ⟨by show (0 : Int32) ≤ 0; decide, by show (0 : Int32) ≤ 60; decide⟩ (Or.inl rfl) (methOf_ne m).2
                    refine ⟨fun w => ?_, fun w => ?_⟩
                    · have w : s.g 33 = 0 := by rw [← h.f 33]; exact w
                      rw [if_pos w] at hp
                      exact hp _ _ hR
                    · have w : ¬ s.g 33 = 0 := by rw [← h.f 33]; exact w
                      rw [if_neg w] at hp
                      exact m_close (st := newSt (s.g 27) (s.g 51) len (methOf m) pa) hR hs' hi2 hI.pages rfl (find_app hnone) (by simp) hslot h0 h1 hp
                  · rw [show (20 : Int32) = Int32.ofNat 20 from rfl, zi_le (by omega) (by omega)]; omega
                | succ d ih =>
                  intro k N1 hk q0 q12 q13 q14 q15 q16 q18 q19 q20 qx qk
                  have e20 : (20 : Int32) * Int32.ofNat j + Int32.ofNat k = Int32.ofNat (20 * j + k) := by rw [zi_mulL j 20 20 rfl, zi_add]
                  refine ⟨fun w => ?_, fun _ => ⟨zi_in (by omega) (by decide), by rw [e20]; exact zi_in (by omega) (by decide), ?_⟩⟩
                  · rw [show (20 : Int32) = Int32.ofNat 20 from rfl, zi_le (by omega) (by omega)] at w; omega
                  rw [e20, zi_nat (by omega), zi_nat (by omega), zi_succ]
                  refine ih (k + 1) _ (by omega) (fun q hq => ?_) ?_ ?_ ?_ ?_ ?_ ?_ ?_ ?_ (fun x hx => ?_) (fun x hx hx2 => ?_)
                  · have : q ≠ 21 := by simp at hq; omega
                    simp [va_up, this]; exact q0 q hq
                  · simp [va_up]; exact q12
                  · simp [va_up]; exact q13
                  · simp [va_up]; exact q14
                  · simp [va_up]; exact q15
                  · simp [va_up]; exact q16
                  · simp [va_up]; exact q18
                  · simp [va_up]; exact q19
                  · simp [va_up]; exact q20
                  · simp [va_up, upd, show x ≠ 20 * j + k by omega]; exact qx x hx
                  · by_cases hxk : x = k
                    · subst hxk
                      simp [va_up, upd]
                      rw [q0 46 (by decide), p3 x hx2]
                      have := pch _ (getD_mem hx2)
                      exact zi_nch (by lia) (by lia)
                    · simp [va_up, upd, hxk]; exact qk x (by omega) hx2
              refine key 20 0 _ rfl (fun q hq => ?_) ?_ ?_ ?_ ?_ ?_ ?_ ?_ ?_ (fun x hx => ?_) (fun x hx => by omega)
              · simp at hq; simp [va_up, hq]
              all_goals simp [va_up]
            -- the search
            have srch : ∀ (d i : Nat), i + d = j → wX6_request_b46 post (d + 1) (upd G 47 (G 27)) N (Int32.ofNat i) := by
              intro d
              induction d with
              | zero =>
                intro i hij
                have : i = j := by omega
                subst this
                refine ⟨v4, fun _ => b61, fun w => ?_⟩
                rw [ez] at w; exact absurd hz w
              | succ d ih =>
                intro i hij
                refine ⟨zi_in (by omega) (by decide), fun w => ?_, fun _ => ?_⟩
                · rw [zi_nat (by omega)] at w; exact absurd w (pos i (jl i (by omega)))
                · rw [zi_succ]; exact ih (i + 1) (by omega)
            exact ⟨j + 1, srch j 0 (by omega)⟩
    · rw [hq] at hj
      exact e39 hj.1
