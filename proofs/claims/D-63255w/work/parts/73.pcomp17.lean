set_option maxRecDepth 100000
/-! PURE PART 47: the component: a whole frame, the bytes that come, feed -/
theorem c_whole {gp ad : Nat → Nat} {hb h : x_H} {F : Nat → Int32} {M : Nat → Nat → Int32} {s : SS} {mc ms : Nat} {post : (Nat → Int32) → (Nat → Nat → Int32) → x_H → Prop} (hB : Bs gp hb) (hR : RC gp ad hb F M h s) (hI : Inv s) (hl : s.g 28 ≤ 200) {c : Nat} (h53 : s.g 53 = Int32.ofNat c) (hc : c ≤ 330) (hmc : 900 ≤ mc) (hms : 67000 ≤ ms) (hp : ∀ F' M' h', RC gp ad hb F' M' h' s.whole → post F' M' h') : wX1_whole post gp ad F M h mc ms := by
  have e : s.whole = if (SS.after s.look.1 s.look.2).g 48 = 0 then SS.pump 300 (SS.after s.look.1 s.look.2) else SS.after s.look.1 s.look.2 := rfl
  rw [e] at hp
  have h1 := ok_look hI hl
  obtain ⟨k, k1, k2⟩ := h1.c h53
  have hI2 := (ok_after h1.inv s.look.1).inv
  obtain ⟨k', k3, k4⟩ := (ok_after h1.inv s.look.1).c k2
  have a0 : (0 : Int32) ≤ s.look.2.g 53 := by rw [k2]; exact zb0 (by omega)
  have a1 : s.look.2.g 53 ≤ 1100 := by rw [k2]; exact zb1 (m := 1100) (by omega) (by decide)
  have tail : ∀ F' M' h' m1 m2, 10 ≤ m1 → 100 ≤ m2 → RC gp ad hb F' M' h' (SS.after s.look.1 s.look.2) → wX1_whole_b20 post gp ad F' M' h' m1 m2 := by
    intro F' M' h' m1 m2 q1 q2 hr
    unfold wX1_whole_b20
    rw [hr.f 48 19]
    refine ⟨fun z => ?_, fun z => ?_⟩
    · rw [if_pos z] at hp
      exact ⟨m1, m2, 0, 0, by omega, by omega, c_pump hB hr hI2 k4 (by omega) (by omega) (by omega) hp⟩
    · rw [if_neg z] at hp
      exact hp _ _ _ hr
  refine ⟨820, 66400, 80, 600, by omega, by omega, c_look hB hR hI hl (by rw [h53]; exact zb0 (by omega)) (by rw [h53]; exact zb1 (m := 1100) (by omega) (by decide)) (by omega) (by omega) fun F1 M1 h1' hr => ⟨fun w => ?_, fun z h20 => ?_, fun z w h20 => ?_⟩⟩
  · have e2 : SS.after s.look.1 s.look.2 = s.look.2 := by unfold SS.after; rw [if_neg (by lia), if_neg (by lia)]
    exact tail F1 M1 h1' 80 600 (by omega) (by omega) (by rw [e2]; exact hr)
  · have e2 : SS.after s.look.1 s.look.2 = SS.over (s.look.2.g 27) (SS.say (s.look.1 - 100) (SS.head 1 3 0 (s.look.2.g 27) s.look.2)) := by unfold SS.after; rw [if_pos (by lia)]
    rw [e2] at tail
    refine ⟨Or.inl rfl, fun _ => ⟨fun _ => ⟨30, 200, 50, 400, by omega, by omega, ?_⟩, fun y => absurd y (by decide)⟩⟩
    unfold wX1_reset
    rw [hr.f 27 11]
    refine c_head hr a0 (by lia) fun F2 M2 hr2 k2' => ?_
    rw [k2' 20 (by decide), h20]
    refine c_say hr2 ?_ ?_ fun F3 M3 hr3 k3' => ⟨30, 200, 0, 0, by omega, by omega, ?_⟩
    · rw [head_rw.1, if_pos rfl]; lia
    · rw [head_rw.1, if_pos rfl]; lia
    · rw [hr3.f 27 11, say_rw.1, if_neg (by decide), head_rw.1, if_neg (by decide)]
      exact c_over hB hr3 ((h1.inv.head 1 3 0 _).say _).sts (by omega) (by omega) fun h' hr4 => tail _ _ h' 50 400 (by omega) (by omega) hr4
  · have e2 : SS.after s.look.1 s.look.2 = SS.goAway s.look.1 s.look.2 := by unfold SS.after; rw [if_neg (by lia), if_pos (by lia)]
    rw [e2] at tail
    refine ⟨Or.inr rfl, fun _ => ⟨fun y => absurd y (by decide), fun _ => ?_⟩⟩
    exact c_goAway hr h20 a0 (by lia) fun F' M' hr4 => tail F' M' h1' 80 600 (by omega) (by omega) hr4
/-- the byte b makes a frame whole -/
def wholeB (b : Int32) (s : SS) : Prop := 4 ≤ s.g 22 ∧ ¬ s.g 23 + 1 < 4 ∧ ¬ s.g 23 + 1 < 4 + upd (s.a 24) (s.g 23).toNatClampNeg b 0
theorem c_byteCame {gp ad : Nat → Nat} {hb h : x_H} {F : Nat → Int32} {M : Nat → Nat → Int32} {s : SS} {b : Int32} {mc ms : Nat} {post : (Nat → Int32) → (Nat → Nat → Int32) → x_H → Prop} (hB' : Bs gp hb) (h : RC gp ad hb F M h s) (hI : Inv s) (hB : InvB s) (hb1 : 0 ≤ b ∧ b ≤ 255) {c : Nat} (h53 : s.g 53 = Int32.ofNat c) (hc : (c ≤ 330 ∧ (wholeB b s → 900 ≤ mc ∧ 67000 ≤ ms)) ∨ (c ≤ 1000 ∧ 4 ≤ s.g 22 ∧ s.g 23 + 1 < 4) ∨ (c ≤ 1000 ∧ s.g 22 < 4)) (hp : ∀ F' M' h', RC gp ad hb F' M' h' (SS.byteCame b s) → post F' M' h') : wX1_byteCame post gp ad b F M ‹x_H› mc ms := by
  have g22 := hI.g22
  have g23 := hI.g23
  have a0 : (0 : Int32) ≤ s.g 53 := by rw [h53]; exact zb0 (by omega)
  have a1 : s.g 53 ≤ 1100 := by rw [h53]; exact zb1 (m := 1100) (by omega) (by decide)
  obtain ⟨n, hn, en⟩ := zi_nn (m := 203) g23.1 (by decide) g23.2
  unfold SS.byteCame at hp
  unfold wX1_byteCame
  obtain ⟨-, -, ⟨pf, q1, q2, q3, q4, q5⟩, -⟩ := id hB'
  have q1 := h.2.1 _ _ _ (by simp) q1
  rw [h.f 22 8, h.f 23 7]
  refine ⟨_, _, _, q1, fun z => ?_, fun z => ?_⟩
  · have z : (4 : Int32) ≤ s.g 22 := z
    rw [if_neg (by lia)] at hp
    have enar : vp_nar .byte b.toInt8.toInt32 &&& 255 = b := by rw [zi_nar8, zi_id255 hb1]
    generalize vp_nar .byte b.toInt8.toInt32 = v at enar
    have hM : ∀ k, upd (M 6) (s.g 23).toNatClampNeg v k &&& 255 = upd (s.a 24) (s.g 23).toNatClampNeg b k := fun k => by
      unfold upd
      split
      · exact enar
      · exact h.1.2.1 k
    have hr : RC gp ad hb (upd F 7 (s.g 23 + 1)) (va_up M 6 (upd (M 6) (s.g 23).toNatClampNeg v)) _ ((s.q 24 (upd (s.a 24) (s.g 23).toNatClampNeg b)).p 23 (s.g 23 + 1)) := ⟨(h.1.fr _ _ hM).set 23 7 _, h.2.cong rfl rfl rfl⟩
    generalize upd (M 6) (s.g 23).toNatClampNeg v = g at hM hr ⊢
    have z0 : (0 : Int32).toNatClampNeg = 0 := rfl
    have z1 : (1 : Int32).toNatClampNeg = 1 := rfl
    have z2 : (2 : Int32).toNatClampNeg = 2 := rfl
    have z3 : (3 : Int32).toNatClampNeg = 3 := rfl
    rw [z0, z1, z2, z3, hM, hM, hM, hM]
    refine ⟨by rw [en]; exact zi_in (by omega) (by decide), fun w => ?_, fun w => ?_⟩
    · have hc3 : c ≤ 330 ∧ (wholeB b s → 900 ≤ mc ∧ 67000 ≤ ms) := hc.resolve_right fun q => by rcases q with q | q <;> lia
      have hn3 : 3 ≤ n := by
        rw [en, zi_succ, show (4 : Int32) = Int32.ofNat 4 from rfl, zi_le (by decide) (by omega)] at w; omega
      have f0 : upd (s.a 24) (s.g 23).toNatClampNeg b 0 = s.a 24 0 := upd_ne (by rw [en, zi_nat (by omega)]; omega)
      have hf0 := hI.fr 0
      simp only [if_neg (show ¬ s.g 23 + 1 < 4 by lia)] at hp
      rw [f0] at hp ⊢
      have hr2 := hr.set 28 12 (s.a 24 0)
      refine ⟨fun y => ⟨fun x => ?_, fun x => ?_⟩, fun y => ?_⟩
      · rw [if_neg (by lia), if_neg (by lia)] at hp
        have hw := frameW_inv hI hb1 (s.g 23).toNatClampNeg
        have ew : frameW s (upd (s.a 24) (s.g 23).toNatClampNeg b) = (((((((s.q 24 (upd (s.a 24) (s.g 23).toNatClampNeg b)).p 23 (s.g 23 + 1)).p 28 (s.a 24 0)).p 25 (upd (s.a 24) (s.g 23).toNatClampNeg b 1)).p 26 (upd (s.a 24) (s.g 23).toNatClampNeg b 2)).p 27 (upd (s.a 24) (s.g 23).toNatClampNeg b 3)).p 23 0) := by
          unfold frameW; rw [f0]
        rw [← ew] at hp
        have hr3 := (((hr2.set 25 9 (upd (s.a 24) (s.g 23).toNatClampNeg b 1)).set 26 10 (upd (s.a 24) (s.g 23).toNatClampNeg b 2)).set 27 11 (upd (s.a 24) (s.g 23).toNatClampNeg b 3)).set 23 7 0
        rw [← ew] at hr3
        have hbud := hc3.2 ⟨z, by lia, by rw [f0]; lia⟩
        exact ⟨mc, ms, 0, 0, by omega, by omega, c_whole hB' hr3 hw (by rw [ew]; exact y) (c := c) (by rw [ew]; exact h53) hc3.1 hbud.1 hbud.2 hp⟩
      · have hlt : s.g 23 + 1 < 4 + s.a 24 0 := by lia
        rw [if_neg (by lia), if_pos hlt] at hp
        exact hp _ _ _ hr2
      · rw [if_pos (by lia)] at hp
        exact c_goAway (hr2.priv 20 6) (by simp [upd]) a0 (by show s.g 53 ≤ 1194; lia) fun F' M' hr4 => hp F' M' _ hr4
    · simp only [if_pos (show s.g 23 + 1 < 4 by lia)] at hp
      exact hp _ _ _ hr
  · have z : ¬ (4 : Int32) ≤ s.g 22 := z
    rw [if_pos (by lia)] at hp
    have hr := (h.set 22 8 (s.g 22 + 1)).priv 20 1
    have key : pf (s.g 22).toNatClampNeg = prefaceB (s.g 22) := by
      obtain ⟨m, hm, em⟩ := zi_nn (m := 3) (x := s.g 22) g22.1 (by decide) (by lia)
      rw [em, zi_nat (by omega)]
      rcases (show m = 0 ∨ m = 1 ∨ m = 2 ∨ m = 3 by omega) with rfl | rfl | rfl | rfl
      · rw [q2]; decide
      · rw [q3]; decide
      · rw [q4]; decide
      · rw [q5]; decide
    refine ⟨_, 4, pf, q1, ?_, fun e => ?_, fun e => ?_⟩
    · obtain ⟨m, hm, em⟩ := zi_nn (m := 3) (x := s.g 22) g22.1 (by decide) (by lia)
      rw [em]; exact zi_in (by omega) (by decide)
    · rw [key] at e
      simp only [if_pos e] at hp
      unfold wX1_byteCame_b28
      rw [h.f 22 8]
      exact ⟨fun q => absurd q (by decide), fun _ => hp _ _ _ hr⟩
    · rw [key] at e
      simp only [if_neg e] at hp
      unfold wX1_byteCame_b28
      rw [h.f 22 8]
      exact ⟨fun _ => c_goAway hr (by simp [upd]) a0 (by show s.g 53 ≤ 1194; lia) fun F' M' hr4 => hp F' M' _ hr4, fun q => absurd rfl q⟩
theorem goAway_g23 (why : Int32) (s : SS) : (SS.goAway why s).g 23 = s.g 23 := by
  show (SS.p _ 48 why).g 23 = _
  rw [ssr.1, if_neg (by decide), say_rw.1, if_neg (by decide), say_rw.1, if_neg (by decide), head_rw.1, if_neg (by decide)]
theorem byteCame_23 {s : SS} (hI : Inv s) {b : Int32} (hb : 0 ≤ b ∧ b ≤ 255) : (¬ wholeB b s → (SS.byteCame b s).g 23 = s.g 23 ∨ (SS.byteCame b s).g 23 = s.g 23 + 1) ∧ (wholeB b s → (SS.byteCame b s).g 48 ≠ 0 ∨ (SS.byteCame b s).g 23 = 0) := by
  have g22 := hI.g22
  have es : SS.byteCame b s = if s.g 22 < 4 then (if b = prefaceB (s.g 22) then s.p 22 (s.g 22 + 1) else SS.goAway 1 (s.p 22 (s.g 22 + 1))) else (if s.g 23 + 1 < 4 then (s.q 24 (upd (s.a 24) (s.g 23).toNatClampNeg b)).p 23 (s.g 23 + 1) else if 200 < upd (s.a 24) (s.g 23).toNatClampNeg b 0 then SS.goAway 6 (((s.q 24 (upd (s.a 24) (s.g 23).toNatClampNeg b)).p 23 (s.g 23 + 1)).p 28 (upd (s.a 24) (s.g 23).toNatClampNeg b 0)) else if s.g 23 + 1 < 4 + upd (s.a 24) (s.g 23).toNatClampNeg b 0 then (((s.q 24 (upd (s.a 24) (s.g 23).toNatClampNeg b)).p 23 (s.g 23 + 1)).p 28 (upd (s.a 24) (s.g 23).toNatClampNeg b 0)) else SS.whole (frameW s (upd (s.a 24) (s.g 23).toNatClampNeg b))) := rfl
  rw [es]
  refine ⟨fun hn => ?_, fun hw => ?_⟩
  · split
    · refine Or.inl ?_
      split
      · rfl
      · rw [goAway_g23]; rfl
    · rename_i z1
      split
      · exact Or.inr rfl
      · rename_i z2
        split
        · rw [goAway_g23]; exact Or.inr rfl
        · split
          · exact Or.inr rfl
          · rename_i z3
            exact absurd ⟨by lia, z2, z3⟩ hn
  · obtain ⟨w1, w2, w3⟩ := hw
    rw [if_neg (by lia), if_neg w2]
    split
    · exact Or.inl (by rw [goAway_g48]; decide)
    · rename_i z
      have hW := frameW_inv hI hb (s.g 23).toNatClampNeg
      have ho := ok_whole hW (by show upd (s.a 24) (s.g 23).toNatClampNeg b 0 ≤ 200; lia)
      exact Or.inr (ho.2.2.2.1.trans rfl)
theorem c_feedLoop {gp ad : Nat → Nat} {hb : x_H} {w p2 : Int32} {post : Int32 → (Nat → Int32) → (Nat → Nat → Int32) → x_H → Prop} (hB : Bs gp hb) : ∀ (k : Nat) (F : Nat → Int32) (M : Nat → Nat → Int32) (h : x_H) (s : SS) (mc ms : Nat), k ≤ 4 → RC gp ad hb F M h s → FI k s → ((900 ≤ mc ∧ 67000 ≤ ms) ∨ s.g 48 ≠ 0 ∨ s.g 23 + Int32.ofNat k ≤ 3) → (∀ F' M' h', RC gp ad hb F' M' h' (SS.feedLoop w k s) → post 1 F' M' h') → wX1_feed_b25 post gp ad w p2 (k + 1) F M h mc ms (Int32.ofNat k - 1) := by
  intro k
  induction k with
  | zero =>
    intro F M h s mc ms _ hR hf hbd hp
    exact ⟨fun _ => hp F M h hR, fun z => absurd (by decide) z⟩
  | succ k ih =>
    intro F M h s mc ms hk4 hR hf hbd hp
    have e1 : Int32.ofNat (k + 1) - 1 = Int32.ofNat k := zi_sub (a := k + 1) (b := 1) (by omega)
    have e2 : Int32.ofNat k + (-1) = Int32.ofNat k - 1 := (Int32.sub_eq_add_neg _ _).symm
    rw [e1]
    refine ⟨fun z => absurd z (zi_nonneg (by omega)), fun _ => ⟨fun z => ?_, fun z => ?_⟩⟩
    · have z : s.g 48 = 0 := by rw [← hR.f 48 19]; exact z
      have hb1 := byteOf_ok w k
      have ef : SS.feedLoop w (k + 1) s = SS.feedLoop w k (SS.byteCame (byteOf w k) s) := if_pos z
      rw [ef] at hp
      have hs := feed_step hf z hb1
      obtain ⟨hI, hBB, c, h53, hc⟩ := hf
      obtain ⟨y1, y2⟩ := byteCame_23 hI hb1
      have a0 : (0 : Int32) ≤ Int32.ofNat k := zb0 (by omega)
      have a1 : Int32.ofNat k ≤ 3 := zb1 (m := 3) (by omega) (by decide)
      have a2 : Int32.ofNat (k + 1) = Int32.ofNat k + 1 := (zi_succ k).symm
      have g23 := hI.g23
      rw [a2] at hbd
      have hcc : ∀ mc' ms' : Nat, (wholeB (byteOf w k) s → 900 ≤ mc' ∧ 67000 ≤ ms') → (c ≤ 330 ∧ (wholeB (byteOf w k) s → 900 ≤ mc' ∧ 67000 ≤ ms')) ∨ (c ≤ 1000 ∧ 4 ≤ s.g 22 ∧ s.g 23 + 1 < 4) ∨ (c ≤ 1000 ∧ s.g 22 < 4) := fun mc' ms' hw => by
        rcases hc with ⟨q, -⟩ | ⟨q, y⟩
        · exact Or.inl ⟨by omega, hw⟩
        · rcases y with y | ⟨y1, y2, y3⟩
          · exact absurd z y
          · refine Or.inr (Or.inl ⟨by omega, by rw [y1]; decide, ?_⟩)
            rw [a2] at y2
            lia
      by_cases hW : wholeB (byteOf w k) s
      · have hbud : 900 ≤ mc ∧ 67000 ≤ ms := by
          rcases hbd with q | q | q
          · exact q
          · exact absurd z q
          · exact absurd (by lia) hW.2.1
        refine ⟨900, 67000, mc - 900, ms - 67000, by omega, by omega, c_byteCame hB hR hI hBB hb1 h53 (hcc _ _ fun _ => ⟨by omega, by omega⟩) fun F' M' h' hr => ?_⟩
        rw [e2]
        refine ih F' M' h' _ _ _ (by omega) hr hs ?_ hp
        rcases y2 hW with q | q
        · exact Or.inr (Or.inl q)
        · exact Or.inr (Or.inr (by show (SS.byteCame (byteOf w k) s).g 23 + Int32.ofNat k ≤ 3; rw [q]; lia))
      · refine ⟨0, 0, mc, ms, by omega, by omega, c_byteCame hB hR hI hBB hb1 h53 (hcc _ _ fun q => absurd q hW) fun F' M' h' hr => ?_⟩
        rw [e2]
        refine ih F' M' h' _ _ _ (by omega) hr hs ?_ hp
        rcases hbd with q | q | q
        · exact Or.inl q
        · exact absurd z q
        · rcases y1 hW with x | x
          · exact Or.inr (Or.inr (by show (SS.byteCame (byteOf w k) s).g 23 + Int32.ofNat k ≤ 3; rw [x]; lia))
          · exact Or.inr (Or.inr (by show (SS.byteCame (byteOf w k) s).g 23 + Int32.ofNat k ≤ 3; rw [x]; lia))
    · have z : ¬ s.g 48 = 0 := by rw [← hR.f 48 19]; exact z
      rw [feedLoop_stop w _ _ z] at hp
      exact hp F M h hR
theorem c_feed {gp ad : Nat → Nat} {hb h : x_H} {F : Nat → Int32} {M : Nat → Nat → Int32} {s : SS} {w n : Int32} {mc ms : Nat} {post : Int32 → (Nat → Int32) → (Nat → Nat → Int32) → x_H → Prop} (hB' : Bs gp hb) (h : RC gp ad hb F M h s) (hZ : InvZ s) (hmc : 900 ≤ mc) (hms : 67000 ≤ ms) (hp : ∀ F' M' h', RC gp ad hb F' M' h' (SS.feed w n s).2 → post (SS.feed w n s).1 F' M' h') : wX1_feed post gp ad w n F M ‹x_H› mc ms := by
  obtain ⟨hI, hB, c, h53, hc⟩ := hZ
  unfold SS.feed at hp
  refine c_outside (fun c0 c1 => ⟨fun _ => ⟨fun z => ?_, fun z => ?_⟩, fun z => absurd rfl z⟩) (fun co => ⟨fun z => absurd z (by decide), fun _ => ?_⟩)
  · have z : s.g 53 ≤ 300 := by rw [← h.f 53 26]; exact z
    rw [if_neg (fun q => by rcases q with q | q | q <;> lia)] at hp
    obtain ⟨k, hk, ek⟩ := zi_nn (m := 4) (x := n) (by lia) (by decide) c1
    rw [ek, zi_nat (by omega)] at hp
    rw [ek]
    have hc3 : c ≤ 300 := by rw [h53, show (300 : Int32) = Int32.ofNat 300 from rfl, zi_le (by omega) (by decide)] at z; exact z
    exact ⟨k + 1, c_feedLoop hB' k _ M _ s mc ms hk h ⟨hI, hB, c, h53, Or.inl ⟨hc3, hk⟩⟩ (Or.inl ⟨hmc, hms⟩) hp⟩
  · have z : ¬ s.g 53 ≤ 300 := by rw [← h.f 53 26]; exact z
    rw [if_pos (Or.inr (Or.inr (by lia)))] at hp
    exact hp _ _ _ h
  · rw [if_pos (by rcases co with q | q; exact Or.inl q; exact Or.inr (Or.inl q))] at hp
    exact hp _ _ _ h
