set_option maxRecDepth 100000
/-! PURE PART 26: the model: a whole frame, the bytes that come, a call of feed, a restart -/
theorem Ok.c {c : Nat} {s s' : SS} (h : Ok c s s') {m : Nat} (hm : s.g 53 = Int32.ofNat m) : ∃ k, k ≤ c ∧ s'.g 53 = Int32.ofNat (m + k) := by
  obtain ⟨-, ⟨k, k1, k2⟩, -⟩ := h
  exact ⟨k, k1, by rw [k2, hm, zi_add]⟩
theorem zb0 {c : Nat} (h : c < 2147483648) : (0 : Int32) ≤ Int32.ofNat c := by rw [show (0 : Int32) = Int32.ofNat 0 from rfl, zi_le (by decide) h]; omega
theorem zb1 {c m : Nat} (h : c ≤ m) (hm : m < 2147483648) : Int32.ofNat c ≤ Int32.ofNat m := by rw [zi_le (by omega) hm]; exact h
theorem m_whole {G : Nat → Int32} {N : Nat → Nat → Int32} {s : SS} {post : (Nat → Int32) → (Nat → Nat → Int32) → Prop} (h : RM G N s) (hI : Inv s) (hl : s.g 28 ≤ 200) {c : Nat} (h53 : s.g 53 = Int32.ofNat c) (hc : c ≤ 330) (hp : ∀ G' N', RM G' N' s.whole → post G' N') : wX6_whole post G N := by
  have e : s.whole = if (SS.after s.look.1 s.look.2).g 48 = 0 then SS.pump 300 (SS.after s.look.1 s.look.2) else SS.after s.look.1 s.look.2 := rfl
  rw [e] at hp
  have h1 := ok_look hI hl
  obtain ⟨k, k1, k2⟩ := h1.c h53
  have hI2 := (ok_after h1.inv s.look.1).inv
  obtain ⟨k', k3, k4⟩ := (ok_after h1.inv s.look.1).c k2
  have a0 : (0 : Int32) ≤ s.look.2.g 53 := by rw [k2]; exact zb0 (by omega)
  have a1 : s.look.2.g 53 ≤ 1100 := by rw [k2]; exact zb1 (m := 1100) (by omega) (by decide)
  -- behind what came of it
  have tail : ∀ G' N', RM G' N' (SS.after s.look.1 s.look.2) → wX6_whole_b50 post G' N' := by
    intro G' N' hr
    refine ⟨fun z => ?_, fun z => ?_⟩
    · have z : (SS.after s.look.1 s.look.2).g 48 = 0 := by rw [← hr.f 48]; exact z
      rw [if_pos z] at hp
      exact m_pump hr hI2 k4 (by omega) hp
    · have z : ¬ (SS.after s.look.1 s.look.2).g 48 = 0 := by rw [← hr.f 48]; exact z
      rw [if_neg z] at hp
      exact hp _ _ hr
  refine m_look h hI hl (by rw [h53]; exact zb0 (by omega)) (by rw [h53]; exact zb1 (m := 1100) (by omega) (by decide)) fun G1 N1 hr => ⟨fun z => ⟨fun w => tail G1 N1 ?_, fun w => ?_⟩, fun z => ?_⟩
  · have e2 : SS.after s.look.1 s.look.2 = s.look.2 := by unfold SS.after; rw [if_neg (by lia), if_neg (by lia)]
    rw [e2]; exact hr
  · have e2 : SS.after s.look.1 s.look.2 = SS.goAway s.look.1 s.look.2 := by unfold SS.after; rw [if_neg (by lia), if_pos (by lia)]
    rw [e2] at tail
    exact m_goAway hr a0 (by lia) tail
  · have e2 : SS.after s.look.1 s.look.2 = SS.over (s.look.2.g 27) (SS.say (s.look.1 - 100) (SS.head 1 3 0 (s.look.2.g 27) s.look.2)) := by unfold SS.after; rw [if_pos (by lia)]
    rw [e2] at tail
    rw [hr.f 27]
    refine m_head hr a0 (by lia) fun G2 N2 hr2 k2' => m_say hr2 ?_ ?_ fun G3 N3 hr3 k3' => ?_
    · rw [head_rw.1, if_pos rfl]; lia
    · rw [head_rw.1, if_pos rfl]; lia
    · rw [hr3.f 27, say_rw.1, if_neg (by decide), head_rw.1, if_neg (by decide)]
      exact m_end hr3 ((h1.inv.head 1 3 0 _).say _).sts tail
/-- where a frame is: its bytes so far are fewer than it will have -/
def InvB (s : SS) : Prop := s.g 23 < 4 ∨ (s.g 23 < 4 + s.a 24 0 ∧ (s.a 24 0 ≤ 200 ∨ s.g 48 ≠ 0))
theorem upd_ne {f : Nat → Int32} {k j : Nat} {x : Int32} (h : j ≠ k) : upd f k x j = f j := by simp [upd, h]
theorem inv_frame {s : SS} (hI : Inv s) {b : Int32} (hb : 0 ≤ b ∧ b ≤ 255) (k : Nat) : Inv (s.q 24 (upd (s.a 24) k b)) := by
  refine ⟨hI.g, fun j => ?_, hI.bk, hI.pages, hI.came, hI.sts⟩
  show 0 ≤ upd (s.a 24) k b j ∧ upd (s.a 24) k b j ≤ 255
  unfold upd
  split
  · exact hb
  · exact hI.fr j
theorem inv_p23 {s : SS} (hI : Inv s) {x : Int32} (hx : 0 ≤ x ∧ x ≤ 203) : Inv (s.p 23 x) := hI.cong (s' := s.p 23 x) (hI.g.set23 x hx) rfl rfl rfl rfl rfl hI.sts
/-- a whole frame is there -/
def frameW (s : SS) (f : Nat → Int32) : SS := (((((((s.q 24 f).p 23 (s.g 23 + 1)).p 28 (f 0)).p 25 (f 1)).p 26 (f 2)).p 27 (f 3)).p 23 0)
theorem frameW_inv {s : SS} (hI : Inv s) {b : Int32} (hb : 0 ≤ b ∧ b ≤ 255) (k : Nat) : Inv (frameW s (upd (s.a 24) k b)) := by
  have h1 := inv_frame hI hb k
  have hf : ∀ j, 0 ≤ upd (s.a 24) k b j ∧ upd (s.a 24) k b j ≤ 255 := h1.fr
  have h2 := inv_p23 (((((h1.set 28 _ (hf 0)).set 25 _ (hf 1)).set 26 _ (hf 2)).set 27 _ (hf 3))) (x := 0) (by decide)
  have e : frameW s (upd (s.a 24) k b) = ((((((s.q 24 (upd (s.a 24) k b)).p 28 (upd (s.a 24) k b 0)).p 25 (upd (s.a 24) k b 1)).p 26 (upd (s.a 24) k b 2)).p 27 (upd (s.a 24) k b 3)).p 23 0) := by
    refine Prod.ext ?_ rfl
    funext j
    show upd (upd (upd (upd (upd (upd s.g 23 (s.g 23 + 1)) 28 (upd (s.a 24) k b 0)) 25 (upd (s.a 24) k b 1)) 26 (upd (s.a 24) k b 2)) 27 (upd (s.a 24) k b 3)) 23 0 j = upd (upd (upd (upd (upd s.g 28 (upd (s.a 24) k b 0)) 25 (upd (s.a 24) k b 1)) 26 (upd (s.a 24) k b 2)) 27 (upd (s.a 24) k b 3)) 23 0 j
    by_cases q : j = 23
    · subst q; simp [upd]
    · rw [upd_ne q, upd_ne q]
      by_cases q1 : j = 27
      · subst q1; simp [upd]
      · rw [upd_ne q1, upd_ne q1]
        by_cases q2 : j = 26
        · subst q2; simp [upd]
        · rw [upd_ne q2, upd_ne q2]
          by_cases q3 : j = 25
          · subst q3; simp [upd]
          · rw [upd_ne q3, upd_ne q3]
            by_cases q4 : j = 28
            · subst q4; simp [upd]
            · rw [upd_ne q4, upd_ne q4, upd_ne q]
  rw [e]; exact h2
theorem m_take1 {G : Nat → Int32} {N : Nat → Nat → Int32} {s : SS} {b : Int32} {post : (Nat → Int32) → (Nat → Nat → Int32) → Prop} (h : RM G N s) (hI : Inv s) (hB : InvB s) (hb : 0 ≤ b ∧ b ≤ 255) {c : Nat} (h53 : s.g 53 = Int32.ofNat c) (hc : c ≤ 330 ∨ (c ≤ 1000 ∧ 4 ≤ s.g 22 ∧ s.g 23 + 1 < 4)) (hp : ∀ G' N', RM G' N' (SS.byteCame b s) → post G' N') : wX6_take1 post b G N := by
  have g22 := hI.g22
  have g23 := hI.g23
  have a0 : (0 : Int32) ≤ s.g 53 := by rw [h53]; exact zb0 (by omega)
  have a1 : s.g 53 ≤ 1100 := by rw [h53]; exact zb1 (m := 1100) (by omega) (by decide)
  obtain ⟨n, hn, en⟩ := zi_nn (m := 203) g23.1 (by decide) g23.2
  unfold SS.byteCame at hp
  unfold wX6_take1
  rw [h.f 22, h.f 23, h.a 24]
  refine ⟨fun z => ?_, fun z => ?_⟩
  · rw [if_neg (by lia)] at hp
    have hr := (h.arS 24 (upd (s.a 24) (s.g 23).toNatClampNeg b)).set 23 (s.g 23 + 1)
    refine ⟨by rw [en]; exact zi_in (by omega) (by decide), fun w => ?_, fun w => ?_⟩
    · have z0 : (0 : Int32).toNatClampNeg = 0 := rfl
      have z1 : (1 : Int32).toNatClampNeg = 1 := rfl
      have z2 : (2 : Int32).toNatClampNeg = 2 := rfl
      have z3 : (3 : Int32).toNatClampNeg = 3 := rfl
      rw [z0, z1, z2, z3]
      have hc3 : c ≤ 330 := hc.resolve_right fun q => by lia
      -- byte 0 is there already
      have hn3 : 3 ≤ n := by
        rw [en, zi_succ, show (4 : Int32) = Int32.ofNat 4 from rfl, zi_le (by decide) (by omega)] at w; omega
      have f0 : upd (s.a 24) (s.g 23).toNatClampNeg b 0 = s.a 24 0 := upd_ne (by rw [en, zi_nat (by omega)]; omega)
      have hf0 := hI.fr 0
      simp only [if_neg (show ¬ s.g 23 + 1 < 4 by lia)] at hp
      rw [f0] at hp ⊢
      have hr2 := hr.set 28 (s.a 24 0)
      refine ⟨fun y => ⟨fun x => ?_, fun x => ?_⟩, fun y => ?_⟩
      · rw [if_neg (by lia), if_neg (by lia)] at hp
        have hw := frameW_inv hI hb (s.g 23).toNatClampNeg
        have ew : frameW s (upd (s.a 24) (s.g 23).toNatClampNeg b) = (((((((s.q 24 (upd (s.a 24) (s.g 23).toNatClampNeg b)).p 23 (s.g 23 + 1)).p 28 (s.a 24 0)).p 25 (upd (s.a 24) (s.g 23).toNatClampNeg b 1)).p 26 (upd (s.a 24) (s.g 23).toNatClampNeg b 2)).p 27 (upd (s.a 24) (s.g 23).toNatClampNeg b 3)).p 23 0) := by
          unfold frameW; rw [f0]
        rw [← ew] at hp
        have hr3 := (((hr2.set 25 (upd (s.a 24) (s.g 23).toNatClampNeg b 1)).set 26 (upd (s.a 24) (s.g 23).toNatClampNeg b 2)).set 27 (upd (s.a 24) (s.g 23).toNatClampNeg b 3)).set 23 0
        rw [← ew] at hr3
        exact m_whole hr3 hw (by rw [ew]; exact y) (c := c) (by rw [ew]; exact h53) hc3 hp
      · have hlt : s.g 23 + 1 < 4 + s.a 24 0 := by
          rcases hB with q | ⟨q, -⟩
          · lia
          · lia
        rw [if_neg (by lia), if_pos hlt] at hp
        exact hp _ _ hr2
      · rw [if_pos (by lia)] at hp
        exact m_goAway hr2 a0 (by show s.g 53 ≤ 1194; lia) hp
    · simp only [if_pos (show s.g 23 + 1 < 4 by lia)] at hp
      exact hp _ _ hr
  · rw [if_pos (by lia)] at hp
    have hr := h.set 22 (s.g 22 + 1)
    have key : ∀ x : Int32, x = prefaceB (s.g 22) → (b = x → wX6_take1_b21 post b G N 1) ∧ (¬ b = x → wX6_take1_b21 post b G N 0) := by
      intro x hx
      refine ⟨fun e => ⟨fun q => absurd q (by decide), fun _ => ?_⟩, fun e => ⟨fun _ => ?_, fun q => absurd rfl q⟩⟩
      · simp only [if_pos (show b = prefaceB (s.g 22) from e.trans hx)] at hp
        rw [h.f 22]; exact hp _ _ hr
      · simp only [if_neg (show ¬ b = prefaceB (s.g 22) from fun q => e (q.trans hx.symm))] at hp
        rw [h.f 22]
        exact m_goAway hr a0 (by show s.g 53 ≤ 1194; lia) hp
    unfold wX6_prefaceByte
    rw [h.f 22]
    refine ⟨fun e => key 80 ?_, fun e => ⟨fun e1 => key 82 ?_, fun e1 => ⟨fun e2 => key 73 ?_, fun e2 => key 10 ?_⟩⟩⟩
    · unfold prefaceB; rw [if_pos e]
    · unfold prefaceB; rw [if_neg e, if_pos e1]
    · unfold prefaceB; rw [if_neg e, if_neg e1, if_pos e2]
    · unfold prefaceB; rw [if_neg e, if_neg e1, if_neg e2]
