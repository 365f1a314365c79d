set_option maxRecDepth 100000
/-! PURE PART 27: the model: feed, restart -/
/-- k bytes of a feed are still to come -/
def FI (k : Nat) (s : SS) : Prop := Inv s ∧ InvB s ∧ ∃ c : Nat, s.g 53 = Int32.ofNat c ∧ ((c ≤ 300 ∧ k ≤ 4) ∨ (c ≤ 700 ∧ (s.g 48 ≠ 0 ∨ (s.g 22 = 4 ∧ s.g 23 + Int32.ofNat k ≤ 3 ∧ k ≤ 3))))
theorem byteOf_ok (v : Int32) (k : Nat) : 0 ≤ byteOf v k ∧ byteOf v k ≤ 255 := by
  unfold byteOf
  generalize v >>> (((8 : Int32) * Int32.ofNat k) &&& 31) = x
  have h1 : (x &&& 255).toBitVec = x.toBitVec &&& 255#32 := rfl
  have h2 : (x &&& 255).toBitVec.toNat ≤ 255 := by
    rw [h1, BitVec.toNat_and]
    exact Nat.and_le_right
  have h3 : (x &&& 255).toInt = (x &&& 255).toBitVec.toNat := by
    show (x &&& 255).toBitVec.toInt = _
    rw [BitVec.toInt_eq_toNat_cond]
    split
    · rfl
    · omega
  have e0 : (0 : Int32).toInt = 0 := by decide
  have e1 : (255 : Int32).toInt = 255 := by decide
  rw [Int32.le_iff_toInt_le, Int32.le_iff_toInt_le, h3, e0, e1]
  omega
theorem goAway_g48 (why : Int32) (s : SS) : (SS.goAway why s).g 48 = why := by
  show (SS.p _ 48 why).g 48 = why
  rw [ssr.1, if_pos rfl]
theorem feed_step {k : Nat} {s : SS} (h : FI (k + 1) s) (h48 : s.g 48 = 0) {b : Int32} (hb : 0 ≤ b ∧ b ≤ 255) : FI k (SS.byteCame b s) := by
  obtain ⟨hI, hB, c, h53, hc⟩ := h
  have hk0 : (0 : Int32) ≤ Int32.ofNat k := by
    rcases hc with ⟨-, hk⟩ | ⟨-, w⟩
    · exact zb0 (by omega)
    · rcases w with w | ⟨-, -, w⟩
      · exact absurd h48 w
      · exact zb0 (by omega)
  have hk1 : Int32.ofNat k ≤ 3 := by
    rcases hc with ⟨-, hk⟩ | ⟨-, w⟩
    · exact zb1 (m := 3) (by omega) (by decide)
    · rcases w with w | ⟨-, -, w⟩
      · exact absurd h48 w
      · exact zb1 (m := 3) (by omega) (by decide)
  have hks : Int32.ofNat (k + 1) = Int32.ofNat k + 1 := (zi_succ k).symm
  have g22 := hI.g22
  have g23 := hI.g23
  obtain ⟨n, hn, en⟩ := zi_nn (m := 203) g23.1 (by decide) g23.2
  have es : SS.byteCame b s = if s.g 22 < 4 then (if b = prefaceB (s.g 22) then s.p 22 (s.g 22 + 1) else SS.goAway 1 (s.p 22 (s.g 22 + 1))) else (if s.g 23 + 1 < 4 then (s.q 24 (upd (s.a 24) (s.g 23).toNatClampNeg b)).p 23 (s.g 23 + 1) else if 200 < upd (s.a 24) (s.g 23).toNatClampNeg b 0 then SS.goAway 6 (((s.q 24 (upd (s.a 24) (s.g 23).toNatClampNeg b)).p 23 (s.g 23 + 1)).p 28 (upd (s.a 24) (s.g 23).toNatClampNeg b 0)) else if s.g 23 + 1 < 4 + upd (s.a 24) (s.g 23).toNatClampNeg b 0 then (((s.q 24 (upd (s.a 24) (s.g 23).toNatClampNeg b)).p 23 (s.g 23 + 1)).p 28 (upd (s.a 24) (s.g 23).toNatClampNeg b 0)) else SS.whole (frameW s (upd (s.a 24) (s.g 23).toNatClampNeg b))) := rfl
  -- fewer than four bytes
  have few : s.g 23 + 1 < 4 → Inv ((s.q 24 (upd (s.a 24) (s.g 23).toNatClampNeg b)).p 23 (s.g 23 + 1)) ∧ InvB ((s.q 24 (upd (s.a 24) (s.g 23).toNatClampNeg b)).p 23 (s.g 23 + 1)) := fun w =>
    ⟨inv_p23 (inv_frame hI hb _) ⟨by lia, by lia⟩, Or.inl w⟩
  rcases hc with ⟨hc, hk⟩ | ⟨hc, w⟩
  · -- gone away
    have away : ∀ (why : Int32) (s1 : SS), why ≠ 0 → Inv s1 → (s1.g 23 < 4 ∨ s1.g 23 < 4 + s1.a 24 0) → s1.g 53 = Int32.ofNat c → FI k (SS.goAway why s1) := by
      intro why s1 hw h1 hb1 h53'
      have ho := ok_goAway h1 why
      obtain ⟨k', q1, q2⟩ := ho.c h53'
      refine ⟨ho.inv, ?_, c + k', q2, Or.inr ⟨by omega, Or.inl (by rw [goAway_g48]; exact hw)⟩⟩
      unfold InvB
      rw [ho.2.2.2.1, ho.2.2.2.2]
      exact hb1.imp id fun q => ⟨q, Or.inr (by rw [goAway_g48]; exact hw)⟩
    rw [es]
    by_cases c1 : s.g 22 < 4
    · rw [if_pos c1]
      have h1 : Inv (s.p 22 (s.g 22 + 1)) := hI.cong (s' := s.p 22 (s.g 22 + 1)) (hI.g.set22 _ ⟨by lia, by lia⟩) rfl rfl rfl rfl rfl hI.sts
      by_cases c2 : b = prefaceB (s.g 22)
      · rw [if_pos c2]; exact ⟨h1, hB, c, h53, Or.inl ⟨hc, by omega⟩⟩
      · rw [if_neg c2]; exact away 1 _ (by decide) h1 (hB.imp id fun q => q.1) h53
    · rw [if_neg c1]
      by_cases c2 : s.g 23 + 1 < 4
      · rw [if_pos c2]; exact ⟨(few c2).1, (few c2).2, c, h53, Or.inl ⟨hc, by omega⟩⟩
      · rw [if_neg c2]
        have hn3 : 3 ≤ n := by
          rw [en, zi_succ, show (4 : Int32) = Int32.ofNat 4 from rfl, zi_lt (by omega) (by decide)] at c2; omega
        have f0 : upd (s.a 24) (s.g 23).toNatClampNeg b 0 = s.a 24 0 := upd_ne (by rw [en, zi_nat (by omega)]; omega)
        have hf0 := hI.fr 0
        rw [f0]
        have ha0 : (((s.q 24 (upd (s.a 24) (s.g 23).toNatClampNeg b)).p 23 (s.g 23 + 1)).p 28 (s.a 24 0)).a 24 0 = s.a 24 0 := f0
        by_cases c3 : 200 < s.a 24 0
        · rw [if_pos c3]
          have hlt : s.g 23 < 4 := by
            rcases hB with q | ⟨-, q⟩
            · exact q
            · rcases q with q | q
              · lia
              · exact absurd h48 q
          exact away 6 _ (by decide) ((inv_p23 (inv_frame hI hb _) ⟨by lia, by lia⟩).set 28 _ hf0) (Or.inr (by rw [ha0]; show s.g 23 + 1 < _; lia)) h53
        · rw [if_neg c3]
          by_cases c4 : s.g 23 + 1 < 4 + s.a 24 0
          · rw [if_pos c4]
            exact ⟨(inv_p23 (inv_frame hI hb _) ⟨by lia, by lia⟩).set 28 _ hf0, Or.inr ⟨by rw [ha0]; exact c4, Or.inl (by rw [ha0]; lia)⟩, c, h53, Or.inl ⟨hc, by omega⟩⟩
          · rw [if_neg c4]
            have ho := ok_whole (frameW_inv hI hb (s.g 23).toNatClampNeg) (show (frameW s (upd (s.a 24) (s.g 23).toNatClampNeg b)).g 28 ≤ 200 from by
              show upd (s.a 24) (s.g 23).toNatClampNeg b 0 ≤ 200
              rw [f0]; lia)
            obtain ⟨k', q1, q2⟩ := ho.c (m := c) h53
            have e23 : (SS.whole (frameW s (upd (s.a 24) (s.g 23).toNatClampNeg b))).g 23 = 0 := ho.2.2.2.1
            have e22 : (SS.whole (frameW s (upd (s.a 24) (s.g 23).toNatClampNeg b))).g 22 = s.g 22 := ho.2.2.1
            refine ⟨ho.inv, Or.inl (by rw [e23]; decide), c + k', q2, Or.inr ⟨by omega, Or.inr ⟨by rw [e22]; lia, by rw [e23]; lia, by omega⟩⟩⟩
  · rcases w with w | ⟨w1, w2, w3⟩
    · exact absurd h48 w
    · rw [hks] at w2
      have c2 : s.g 23 + 1 < 4 := by lia
      rw [es, if_neg (by rw [w1]; decide), if_pos c2]
      exact ⟨(few c2).1, (few c2).2, c, h53, Or.inr ⟨hc, Or.inr ⟨w1, by show s.g 23 + 1 + Int32.ofNat k ≤ 3; lia, by omega⟩⟩⟩
theorem feedLoop_stop (w : Int32) : ∀ (k : Nat) (s : SS), s.g 48 ≠ 0 → SS.feedLoop w k s = s
  | 0, _, _ => rfl
  | k + 1, s, h => by
    show (if s.g 48 = 0 then _ else s) = s
    rw [if_neg h]
theorem m_feedLoop {w p2 : Int32} {post : Int32 → (Nat → Int32) → (Nat → Nat → Int32) → Prop} : ∀ (k : Nat) (G : Nat → Int32) (N : Nat → Nat → Int32) (s : SS), k ≤ 4 → RM G N s → FI k s → (∀ G' N', RM G' N' (SS.feedLoop w k s) → post 1 G' N') → wX6_feed_b30 post w p2 (k + 1) G N (Int32.ofNat k - 1) := by
  intro k
  induction k with
  | zero =>
    intro G N s _ h hf hp
    exact ⟨fun _ => hp G N h, fun z => absurd (by decide) z⟩
  | succ k ih =>
    intro G N s hk4 h hf hp
    have e1 : Int32.ofNat (k + 1) - 1 = Int32.ofNat k := zi_sub (a := k + 1) (b := 1) (by omega)
    have e2 : Int32.ofNat k + (-1) = Int32.ofNat k - 1 := (Int32.sub_eq_add_neg _ _).symm
    rw [e1]
    refine ⟨fun z => absurd z (zi_nonneg (by omega)), fun _ => ⟨fun z => ?_, fun z => ?_⟩⟩
    · have z : s.g 48 = 0 := by rw [← h.f 48]; exact z
      have hb := byteOf_ok w k
      have ef : SS.feedLoop w (k + 1) s = SS.feedLoop w k (SS.byteCame (byteOf w k) s) := if_pos z
      rw [ef] at hp
      have hs := feed_step hf z hb
      obtain ⟨hI, hB, c, h53, hc⟩ := hf
      show wX6_take1 _ (byteOf w k) G N
      refine m_take1 h hI hB hb h53 ?_ fun G' N' hr => ?_
      · rcases hc with ⟨q, -⟩ | ⟨q, y⟩
        · exact Or.inl (by omega)
        · rcases y with y | ⟨y1, y2, y3⟩
          · exact absurd z y
          · refine Or.inr ⟨by omega, by rw [y1]; decide, ?_⟩
            have a0 : (0 : Int32) ≤ Int32.ofNat k := zb0 (by omega)
            have a1 : Int32.ofNat k ≤ 3 := zb1 (m := 3) (by omega) (by decide)
            have a2 : Int32.ofNat (k + 1) = Int32.ofNat k + 1 := (zi_succ k).symm
            have := hI.g23
            rw [a2] at y2
            lia
      · show wX6_feed_b30 post w p2 (k + 1) G' N' (Int32.ofNat k + (-1))
        rw [e2]
        exact ih G' N' _ (by omega) hr hs hp
    · have z : ¬ s.g 48 = 0 := by rw [← h.f 48]; exact z
      rw [feedLoop_stop w _ _ z] at hp
      show wX6_feed_b30 post w p2 (k + 1) G N (Int32.ofNat k + (-1))
      rw [e2]
      refine ih G N s (by omega) h ?_ (by rw [feedLoop_stop w _ _ z]; exact hp)
      obtain ⟨hI, hB, c, h53, hc⟩ := hf
      exact ⟨hI, hB, c, h53, Or.inr ⟨by omega, Or.inl z⟩⟩
theorem m_feed {G : Nat → Int32} {N : Nat → Nat → Int32} {s : SS} {w n : Int32} {post : Int32 → (Nat → Int32) → (Nat → Nat → Int32) → Prop} (h : RM G N s) (hI : Inv s) (hB : InvB s) {c : Nat} (h53 : s.g 53 = Int32.ofNat c) (hc : c ≤ 1200) (hp : ∀ G' N', RM G' N' (SS.feed w n s).2 → post (SS.feed w n s).1 G' N') : wX6_feed post w n G N := by
  have hr := h.priv 0 0
  unfold SS.feed at hp
  refine m_outside (fun c0 c1 => ⟨fun _ => ⟨fun z => ?_, fun z => ?_⟩, fun z => absurd rfl z⟩) (fun co => ⟨fun z => absurd z (by decide), fun _ => ?_⟩)
  · have z : s.g 53 ≤ 300 := by rw [← h.f 53]; exact z
    rw [if_neg (fun q => by rcases q with q | q | q <;> lia)] at hp
    obtain ⟨k, hk, ek⟩ := zi_nn (m := 4) (x := n) (by lia) (by decide) c1
    rw [ek, zi_nat (by omega)] at hp
    rw [ek]
    have hc3 : c ≤ 300 := by rw [h53, show (300 : Int32) = Int32.ofNat 300 from rfl, zi_le (by omega) (by decide)] at z; exact z
    exact ⟨k + 1, m_feedLoop k _ N s hk hr ⟨hI, hB, c, h53, Or.inl ⟨hc3, hk⟩⟩ hp⟩
  · have z : ¬ s.g 53 ≤ 300 := by rw [← h.f 53]; exact z
    rw [if_pos (Or.inr (Or.inr (by lia)))] at hp
    exact hp _ _ hr
  · rw [if_pos (by rcases co with q | q; exact Or.inl q; exact Or.inr (Or.inl q))] at hp
    exact hp _ _ hr
/-- what holds between calls -/
def InvZ (s : SS) : Prop := Inv s ∧ InvB s ∧ ∃ c : Nat, s.g 53 = Int32.ofNat c ∧ c ≤ 1200
theorem feedLoop_ok (w : Int32) : ∀ (k : Nat) (s : SS), FI k s → InvZ (SS.feedLoop w k s)
  | 0, s, h => ⟨h.1, h.2.1, h.2.2.elim fun c hc => ⟨c, hc.1, by rcases hc.2 with q | q <;> omega⟩⟩
  | k + 1, s, h => by
    by_cases z : s.g 48 = 0
    · have ef : SS.feedLoop w (k + 1) s = SS.feedLoop w k (SS.byteCame (byteOf w k) s) := if_pos z
      rw [ef]
      exact feedLoop_ok w k _ (feed_step h z (byteOf_ok w k))
    · rw [feedLoop_stop w _ _ z]
      exact ⟨h.1, h.2.1, h.2.2.elim fun c hc => ⟨c, hc.1, by rcases hc.2 with q | q <;> omega⟩⟩
theorem feed_ok {s : SS} (h : InvZ s) (w n : Int32) : InvZ (SS.feed w n s).2 := by
  unfold SS.feed
  split
  · exact h
  · rename_i q
    obtain ⟨hI, hB, c, h53, hc⟩ := h
    obtain ⟨k, hk, ek⟩ := zi_nn (m := 4) (x := n) (by lia) (by decide) (by lia)
    rw [ek, zi_nat (by omega)]
    have hc3 : c ≤ 300 := by
      have z : s.g 53 ≤ 300 := by lia
      rw [h53, show (300 : Int32) = Int32.ofNat 300 from rfl, zi_le (by omega) (by decide)] at z; exact z
    exact feedLoop_ok w k s ⟨hI, hB, c, h53, Or.inl ⟨hc3, hk⟩⟩
