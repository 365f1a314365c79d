set_option maxRecDepth 100000
/-! PURE PART 22: what every step keeps, and how much it says -/
def Ok (c : Nat) (s s' : SS) : Prop := Inv s' ∧ (∃ k : Nat, k ≤ c ∧ s'.g 53 = s.g 53 + Int32.ofNat k) ∧ s'.g 22 = s.g 22 ∧ s'.g 23 = s.g 23 ∧ s'.a 24 = s.a 24
theorem Ok.inv {c : Nat} {s s' : SS} (h : Ok c s s') : Inv s' := h.1
theorem Ok.tr {c d : Nat} {s s' s'' : SS} (h : Ok c s s') (h' : Ok d s' s'') : Ok (c + d) s s'' := by
  obtain ⟨a1, ⟨k, k1, k2⟩, a3, a4, a5⟩ := h
  obtain ⟨b1, ⟨l, l1, l2⟩, b3, b4, b5⟩ := h'
  refine ⟨b1, ⟨k + l, by omega, ?_⟩, b3.trans a3, b4.trans a4, b5.trans a5⟩
  rw [l2, k2, Int32.add_assoc, zi_add]
theorem Ok.wk {c d : Nat} {s s' : SS} (h : Ok c s s') (hd : c ≤ d) : Ok d s s' := ⟨h.1, h.2.1.elim fun k hk => ⟨k, Nat.le_trans hk.1 hd, hk.2⟩, h.2.2⟩
theorem Ok.rf {c : Nat} {s : SS} (h : Inv s) : Ok c s s := ⟨h, ⟨0, Nat.zero_le _, by rw [show Int32.ofNat 0 = 0 from rfl, Int32.add_zero]⟩, rfl, rfl, rfl⟩
theorem ok_say {s : SS} (h : Inv s) (b : Int32) : Ok 1 s (SS.say b s) := ⟨h.say b, ⟨1, Nat.le_refl _, rfl⟩, rfl, rfl, rfl⟩
theorem ok_head {s : SS} (h : Inv s) (a b c d : Int32) : Ok 4 s (SS.head a b c d s) := ⟨h.head a b c d, ⟨4, Nat.le_refl _, by rw [head_rw.1, if_pos rfl]; rfl⟩, rfl, rfl, rfl⟩
theorem ok_credit {s : SS} (h : Inv s) (a b : Int32) : Ok 6 s (SS.credit a b s) := ⟨h.credit a b, ⟨6, Nat.le_refl _, by rw [credit_rw.1, if_pos rfl]; rfl⟩, rfl, rfl, rfl⟩
theorem ok_over {s : SS} (h : Inv s) (n : Int32) : Ok 0 s (SS.over n s) := ⟨h.over n, ⟨0, Nat.le_refl _, (Int32.add_zero _).symm⟩, rfl, rfl, rfl⟩
theorem ok_ws {s : SS} (h : Inv s) {l : List St} (hl : InvS l) : Ok 0 s (s.ws l) := ⟨h.cong (s' := s.ws l) h.g rfl rfl rfl rfl rfl hl, ⟨0, Nat.le_refl _, (Int32.add_zero _).symm⟩, rfl, rfl, rfl⟩
theorem ok_p {s : SS} (k : Nat) (x : Int32) (h : Inv (s.p k x)) (hk : k ≠ 53 ∧ k ≠ 22 ∧ k ≠ 23) : Ok 0 s (s.p k x) :=
  ⟨h, ⟨0, Nat.le_refl _, by rw [ssr.1, if_neg (Ne.symm hk.1)]; exact (Int32.add_zero _).symm⟩, by rw [ssr.1, if_neg (Ne.symm hk.2.1)], by rw [ssr.1, if_neg (Ne.symm hk.2.2)], rfl⟩
theorem ok_goAway {s : SS} (h : Inv s) (why : Int32) : Ok 6 s (SS.goAway why s) := by
  have h1 := ok_head h 2 7 0 0
  have h2 := h1.tr (ok_say h1.inv (s.g 47))
  have h3 := h2.tr (ok_say h2.inv why)
  exact h3.tr (ok_p 48 why (h3.inv.free 48 why) (by decide))
theorem ok_answer {s : SS} (h : Inv s) (st : St) : Ok 9 s (SS.answer st s) := by
  have hsz := ansSize_ok (s := s) (st := st) h.pages
  unfold SS.answer
  dsimp only
  generalize ansSize st (ansPage st s) = x at hsz ⊢
  generalize (if x = 0 then (0 : Int32) else pgByte (ansPage st s)) = y
  generalize (if (ansPage st s).isSome = true then (134 : Int32) else 135) = w
  have fin : ∀ (c : Nat) (s2 : SS), Ok c s s2 → Ok c s (if x = 0 then SS.over st.num (SS.modSt st.num (fun q => (q.set 16 x).set 17 y) s2) else SS.modSt st.num (fun q => (q.set 16 x).set 17 y) s2) := by
    intro c s2 h2
    have hm : InvS (s2.sts.map (fun q => if q.num = st.num then (q.set 16 x).set 17 y else q)) := h2.inv.sts.mod fun q hq e => ⟨by simp [St.rw], by simpa [St.rw] using hsz, by simpa [St.rw] using h2.inv.sts.closed q hq, by simpa [St.rw] using h2.inv.sts.meth q hq⟩
    have h3 := h2.tr (ok_ws h2.inv hm)
    by_cases e : x = 0
    · rw [if_pos e]; exact h3.tr (ok_over h3.inv _)
    · rw [if_neg e]; exact h3
  by_cases e2 : st.meth = 2
  · simp only [if_pos e2]
    have h1 := ok_head h 5 1 (if x = 0 then 5 else 4) st.num
    have h2 := h1.tr (ok_say h1.inv 6)
    have h3 := h2.tr (ok_say h2.inv 3)
    have h4 := h3.tr (ok_say h3.inv 52)
    have h5 := h4.tr (ok_say h4.inv 48)
    have h6 := h5.tr (ok_say h5.inv 53)
    have h7 := fin _ _ h6
    exact Ok.wk (d := 9) h7 (by decide)
  · simp only [if_neg e2]
    have h1 := ok_head h 1 1 (if x = 0 then 5 else 4) st.num
    have h2 := h1.tr (ok_say h1.inv w)
    have h7 := fin _ _ h2
    exact Ok.wk (d := 9) h7 (by decide)
theorem close_eq (n : Int32) (s : SS) : SS.close n s = match (SS.modSt n (fun q => q.set 18 1) s).find n with
  | none => (0, SS.modSt n (fun q => q.set 18 1) s)
  | some st => if st.len = -1 ∨ st.len = st.cnt then (0, SS.answer st (SS.modSt n (fun q => q.set 18 1) s)) else (101, SS.modSt n (fun q => q.set 18 1) s) := rfl
theorem ok_close {s : SS} (h : Inv s) (n : Int32) : Ok 9 s (SS.close n s).2 := by
  have hm : InvS (s.sts.map (fun q => if q.num = n then q.set 18 1 else q)) := h.sts.mod fun q hq e => ⟨by simp [St.rw], by simpa [St.rw] using h.sts.left q hq, by simp [St.rw], by simpa [St.rw] using h.sts.meth q hq⟩
  have h1 : Ok 0 s (SS.modSt n (fun q => q.set 18 1) s) := ok_ws h hm
  rw [close_eq]
  generalize SS.modSt n (fun q => q.set 18 1) s = s1 at h1
  cases hq : s1.find n with
  | none => exact Ok.wk (c := 0) h1 (by decide)
  | some st =>
    by_cases c : st.len = -1 ∨ st.len = st.cnt
    · have h2 := h1.tr (ok_answer h1.inv st)
      simp only [if_pos c]
      exact Ok.wk (c := 9) h2 (by decide)
    · simp only [if_neg c]
      exact Ok.wk (c := 0) h1 (by decide)
theorem ok_unpad {s : SS} (h : Inv s) : Ok 0 s s.unpad.2 := by
  obtain ⟨u1, u2, u3, u4, u5⟩ := unpad_rw s
  exact ⟨h.unpad, ⟨0, Nat.le_refl _, by rw [u1 53 (by decide) (by decide)]; exact (Int32.add_zero _).symm⟩, u1 22 (by decide) (by decide), u1 23 (by decide) (by decide), by rw [u2]⟩
theorem ok_data2 {s : SS} (h : Inv s) : Ok 9 s s.data2.2 := by
  unfold SS.data2
  cases hq : s.find (s.g 27) with
  | none => exact Ok.rf h
  | some st =>
    show Ok 9 s (if st.closed ≠ 0 then ((105 : Int32), s) else if 50 < s.g 28 then (103, s) else if s.has 1 then SS.close (s.g 27) (SS.modSt (s.g 27) (fun q => q.set 14 (q.cnt + (s.g 30 - s.g 29))) s) else if 0 < s.g 28 then (0, SS.credit (s.g 27) (s.g 28) (SS.modSt (s.g 27) (fun q => q.set 14 (q.cnt + (s.g 30 - s.g 29))) s)) else (0, SS.modSt (s.g 27) (fun q => q.set 14 (q.cnt + (s.g 30 - s.g 29))) s)).2
    have hm : InvS (s.sts.map (fun q => if q.num = s.g 27 then q.set 14 (q.cnt + (s.g 30 - s.g 29)) else q)) := h.sts.mod fun q hq e => ⟨by simp [St.rw], by simpa [St.rw] using h.sts.left q hq, by simpa [St.rw] using h.sts.closed q hq, by simpa [St.rw] using h.sts.meth q hq⟩
    have h1 := ok_ws h hm
    have e : SS.modSt (s.g 27) (fun q => q.set 14 (q.cnt + (s.g 30 - s.g 29))) s = s.ws (s.sts.map (fun q => if q.num = s.g 27 then q.set 14 (q.cnt + (s.g 30 - s.g 29)) else q)) := rfl
    rw [e]
    split
    · exact Ok.rf h
    · split
      · exact Ok.rf h
      · split
        · exact (h1.tr (ok_close h1.inv _)).wk (by decide)
        · split
          · exact (h1.tr (ok_credit h1.inv _ _)).wk (by decide)
          · exact h1.wk (by decide)
theorem ok_data {s : SS} (h : Inv s) : Ok 15 s s.data.2 := by
  unfold SS.data
  split
  · exact Ok.rf h
  · have h1 := ok_unpad h
    show Ok 15 s (if s.unpad.1 = true then (if 80 < s.g 28 then ((3 : Int32), s.unpad.2) else SS.data2 (if 0 < s.g 28 then SS.credit 0 (s.g 28) s.unpad.2 else s.unpad.2)) else (1, s.unpad.2)).2
    split
    · split
      · exact h1.wk (by decide)
      · split
        · have h2 := h1.tr (ok_credit h1.inv 0 (s.g 28))
          exact (h2.tr (ok_data2 h2.inv)).wk (by decide)
        · exact (h1.tr (ok_data2 h1.inv)).wk (by decide)
    · exact h1.wk (by decide)
theorem ok_request {s : SS} (h : Inv s) (hn : 0 < s.g 27) (hf : s.find (s.g 27) = none) (fs : List En) : Ok 9 s (SS.request fs s).2 := by
  have h1 : Ok 0 s (s.p 47 (s.g 27)) := ok_p 47 _ (h.set 47 _ (h.r 27)) (by decide)
  have e : SS.request fs s = if 4 ≤ s.sts.length then (107, s.p 47 (s.g 27)) else match judgeAll fs acc0 with
      | some (some m, some pa, len, _) => (if s.g 33 = 0 then (0, (s.p 47 (s.g 27)).ws ((s.p 47 (s.g 27)).sts ++ [newSt (s.g 27) (s.g 51) len (methOf m) pa])) else SS.close (s.g 27) ((s.p 47 (s.g 27)).ws ((s.p 47 (s.g 27)).sts ++ [newSt (s.g 27) (s.g 51) len (methOf m) pa])))
      | _ => (101, s.p 47 (s.g 27)) := rfl
  rw [e]
  by_cases c : 4 ≤ s.sts.length
  · rw [if_pos c]; exact h1.wk (by decide)
  · rw [if_neg c]
    split
    · rename_i m pa len o hq
      have hl : InvS (s.sts ++ [newSt (s.g 27) (s.g 51) len (methOf m) pa]) := h.sts.app (by omega) ⟨hn, (h.r 27).2⟩ (find_none hf) ⟨by show (0 : Int32) ≤ 0; decide, by show (0 : Int32) ≤ 60; decide⟩ (Or.inl rfl) (methOf_ne m).2
      have h2 : Ok 0 s ((s.p 47 (s.g 27)).ws ((s.p 47 (s.g 27)).sts ++ [newSt (s.g 27) (s.g 51) len (methOf m) pa])) := h1.tr (ok_ws h1.inv hl)
      split
      · exact h2.wk (by decide)
      · exact (h2.tr (ok_close h2.inv _)).wk (by decide)
    · exact h1.wk (by decide)
theorem ok_more3 {s : SS} (h : Inv s) (hn : 0 < s.g 27) (fs : List En) : Ok 9 s (SS.more3 fs s).2 := by
  unfold SS.more3
  cases hq : s.find (s.g 27) with
  | none => exact ok_request h hn hq fs
  | some st =>
    show Ok 9 s (if s.g 33 = 0 ∨ colon fs = true then ((101 : Int32), s) else SS.close (s.g 27) s).2
    split
    · exact Ok.rf h
    · exact ok_close h _
theorem ok_more2 {s : SS} (h : Inv s) (hn : 0 < s.g 27) : Ok 9 s s.more2.2 := by
  unfold SS.more2
  split
  · have hI2 : Inv (s.p 32 (-1)) := h.cong (s' := s.p 32 (-1)) (h.g.set32 _ (Or.inl rfl)) rfl rfl rfl rfl rfl h.sts
    obtain ⟨b1, b2, b3, b4, b5, b6, b7⟩ := readBlock_ok hI2
    have h1 : Ok 0 s (SS.readBlock (s.p 32 (-1))).2.1 := ⟨b1, ⟨0, Nat.le_refl _, by rw [b4 53 (by decide)]; exact (Int32.add_zero _).symm⟩, b4 22 (by decide), b4 23 (by decide), by rw [b5]; rfl⟩
    show Ok 9 s (if (SS.readBlock (s.p 32 (-1))).1 = true then SS.more3 (SS.readBlock (s.p 32 (-1))).2.2 (SS.readBlock (s.p 32 (-1))).2.1 else (9, (SS.readBlock (s.p 32 (-1))).2.1)).2
    split
    · exact (h1.tr (ok_more3 h1.inv (by rw [b4 27 (by decide)]; exact hn) _)).wk (by decide)
    · exact h1.wk (by decide)
  · exact Ok.rf h
theorem ok_more {s : SS} {f t : Nat} (h : Inv s) (hsp : span s f t) (hn : 0 < s.g 27) : Ok 9 s s.more.2 := by
  obtain ⟨e29, e30, hft, ht⟩ := hsp
  obtain ⟨b, hb, e34⟩ := zi_nn (m := 100) h.g34.1 (by decide) h.g34.2
  have ed : s.g 30 - s.g 29 = Int32.ofNat (t - f) := by rw [e29, e30]; exact zi_sub hft
  have es : s.g 34 + s.g 30 - s.g 29 = Int32.ofNat (b + t - f) := by rw [e29, e30, e34, zi_add]; exact zi_sub (by omega)
  have em : s.more = if 100 < s.g 34 + s.g 30 - s.g 29 then (9, s) else SS.more2 (SS.copyB (t - f) f s) := by
    unfold SS.more
    rw [ed, e29, zi_nat (by omega), zi_nat (by omega)]
  rw [em]
  by_cases c : 100 < s.g 34 + s.g 30 - s.g 29
  · rw [if_pos c]; exact Ok.rf h
  · rw [if_neg c]
    rw [es, show (100 : Int32) = Int32.ofNat 100 from rfl, zi_lt (by decide) (by omega)] at c
    obtain ⟨c1, c2, c3, c4, c5, c6⟩ := copyB_ok (t - f) f b s h e34 (by omega)
    have h1 : Ok 0 s (SS.copyB (t - f) f s) := ⟨c1, ⟨0, Nat.le_refl _, by rw [c2 53 (by decide)]; exact (Int32.add_zero _).symm⟩, c2 22 (by decide), c2 23 (by decide), c6⟩
    exact (h1.tr (ok_more2 c1 (by rw [c2 27 (by decide)]; exact hn))).wk (by decide)
theorem span_block {u : SS} {f t : Nat} (h : span u f t) (n x : Int32) : span (((u.p 34 0).p 32 n).p 33 x) f t := ⟨h.1, h.2.1, h.2.2⟩
theorem ok_block {u : SS} (hI : Inv u) {n : Int32} (h0 : 0 < n) (h1 : n ≤ 255) (h2 : odd n) (x : Int32) : Ok 0 u (((u.p 34 0).p 32 n).p 33 x) :=
  ⟨hI.block h0 h1 h2 x, ⟨0, Nat.le_refl _, (Int32.add_zero _).symm⟩, rfl, rfl, rfl⟩
theorem ok_headers {s : SS} (h : Inv s) (hl : s.g 28 ≤ 200) : Ok 9 s s.headers.2 := by
  have b27 := h.r 27
  unfold SS.headers
  by_cases hodd : odd (s.g 27)
  · rw [if_pos hodd]
    have hn0 : 0 < s.g 27 := by
      have : s.g 27 ≠ 0 := fun q => by rw [q] at hodd; exact absurd hodd (by decide)
      lia
    have h1 := ok_unpad h
    have hsp := fun hu => unpad_span h hl hu
    obtain ⟨u1, u2, u3, u4, u5⟩ := unpad_rw s
    have g27 := u1 27 (by decide) (by decide)
    generalize s.unpad = u at h1 hsp g27 ⊢
    by_cases hu : u.1 = true
    · simp only [if_pos hu]
      split
      · obtain ⟨f, t, hs⟩ := hsp hu
        have h2 := h1.tr (ok_block h1.inv hn0 b27.2 hodd (if s.has 1 then 1 else 0))
        exact (h2.tr (ok_more h2.inv (span_block hs _ _) (by show 0 < u.2.g 27; rw [g27]; exact hn0))).wk (by decide)
      · exact h1.wk (by decide)
    · simp only [if_neg hu]; exact h1.wk (by decide)
  · rw [if_neg hodd]; exact Ok.rf h
theorem ok_setLoop : ∀ (d k : Nat) {s : SS}, Inv s → Ok 4 s (SS.setLoop d k s).2
  | 0, k, s, h => ok_head h 0 4 1 0
  | d + 1, k, s, h => by
    have es : SS.setLoop (d + 1) k s = if s.a 24 (4 + k) = 4 then SS.setLoop d (k + 2) ((s.ws (s.sts.map (fun st => st.set 13 (st.win + (s.a 24 (5 + k) - s.g 51))))).p 51 (s.a 24 (5 + k))) else if s.a 24 (4 + k) = 5 then (if s.a 24 (5 + k) < 16 then (1, s) else SS.setLoop d (k + 2) (s.p 52 (s.a 24 (5 + k)))) else SS.setLoop d (k + 2) s := rfl
    rw [es]
    split
    · have h1 : Ok 0 s ((s.ws (s.sts.map (fun st => st.set 13 (st.win + (s.a 24 (5 + k) - s.g 51))))).p 51 (s.a 24 (5 + k))) := ⟨(h.wins _).free 51 _, ⟨0, Nat.le_refl _, (Int32.add_zero _).symm⟩, rfl, rfl, rfl⟩
      exact (h1.tr (ok_setLoop d (k + 2) h1.inv)).wk (by decide)
    · split
      · split
        · exact Ok.rf h
        · rename_i c
          have h1 : Ok 0 s (s.p 52 (s.a 24 (5 + k))) := ok_p 52 _ (h.cong (s' := s.p 52 (s.a 24 (5 + k))) (h.g.set52 _ ⟨by lia, (h.fr _).2⟩) rfl rfl rfl rfl rfl h.sts) (by decide)
          exact (h1.tr (ok_setLoop d (k + 2) h1.inv)).wk (by decide)
      · exact ok_setLoop d (k + 2) h
theorem ok_look2 {s : SS} (h : Inv s) (h29 : s.g 29 = 0) (h30 : s.g 30 = s.g 28) (hl : s.g 28 ≤ 200) (hm : s.g 25 = 9 → 0 < s.g 27) : Ok 15 s s.look2.2 := by
  unfold SS.look2
  split
  · exact ok_data h
  split
  · exact (ok_headers h hl).wk (by decide)
  split
  · unfold SS.drop
    split
    · split
      · exact Ok.rf h
      · exact (ok_over h _).wk (by decide)
    · exact Ok.rf h
  split
  · unfold SS.settings
    split
    · split
      · split
        · exact Ok.rf h
        · exact Ok.rf h
      · split
        · exact Ok.rf h
        · exact (ok_setLoop _ 0 h).wk (by decide)
    · exact Ok.rf h
  split
  · unfold SS.ping
    split
    · split
      · split
        · exact Ok.rf h
        · have h1 := ok_head h 4 6 1 0
          have h2 := h1.tr (ok_say h1.inv (s.a 24 4))
          have h3 := h2.tr (ok_say h2.inv (s.a 24 5))
          have h4 := h3.tr (ok_say h3.inv (s.a 24 6))
          exact (h4.tr (ok_say h4.inv (s.a 24 7))).wk (by decide)
      · exact Ok.rf h
    · exact Ok.rf h
  split
  · unfold SS.gone
    split
    · split
      · exact Ok.rf h
      · exact Ok.rf h
    · exact Ok.rf h
  split
  · unfold SS.widen
    split
    · split
      · exact Ok.rf h
      · split
        · simp only
          split
          · exact Ok.rf h
          · split
            · exact Ok.rf h
            · exact (ok_p 50 _ (h.free 50 _) (by decide)).wk (by decide)
        · cases hq : s.find (s.g 27) with
          | none => exact Ok.rf h
          | some st =>
            simp only
            split
            · exact Ok.rf h
            · split
              · exact Ok.rf h
              · exact (ok_ws h (h.sts.mod fun q hq e => ⟨by simp [St.rw], by simpa [St.rw] using h.sts.left q hq, by simpa [St.rw] using h.sts.closed q hq, by simpa [St.rw] using h.sts.meth q hq⟩)).wk (by decide)
    · exact Ok.rf h
  split
  · rename_i z
    obtain ⟨l, hl1, el⟩ := zi_nn (m := 200) (h.r 28).1 (by decide) hl
    exact (ok_more h (f := 0) (t := l) ⟨h29, by rw [h30]; exact el, Nat.zero_le _, hl1⟩ (hm z)).wk (by decide)
  · exact Ok.rf h
theorem ok_look {s : SS} (h : Inv s) (hl : s.g 28 ≤ 200) : Ok 15 s s.look.2 := by
  unfold SS.look
  split
  · exact Ok.rf h
  · have h1 : Ok 0 s (s.p 31 0) := ok_p 31 0 (h.free 31 0) (by decide)
    simp only
    split
    · rename_i q
      have h2 : Ok 0 s (((s.p 31 0).p 29 0).p 30 (s.g 28)) := ⟨(h1.inv.free 29 0).free 30 _, ⟨0, Nat.le_refl _, (Int32.add_zero _).symm⟩, rfl, rfl, rfl⟩
      refine (h2.tr (ok_look2 h2.inv rfl rfl hl fun w => ?_)).wk (by decide)
      have w : s.g 25 = 9 := w
      rcases q with q | q
      · exact absurd w q.2
      · show 0 < s.g 27
        rcases h.g32 with y | y
        · exact absurd y q.1
        · rw [q.2.2]; exact y.1
    · exact h1.wk (by decide)
theorem ok_after {s : SS} (h : Inv s) (why : Int32) : Ok 6 s (SS.after why s) := by
  unfold SS.after
  split
  · have h1 := ok_head h 1 3 0 (s.g 27)
    have h2 := h1.tr (ok_say h1.inv (why - 100))
    exact (h2.tr (ok_over h2.inv _)).wk (by decide)
  · split
    · exact ok_goAway h why
    · exact Ok.rf h
