set_option maxRecDepth 100000
/-! PURE PART 45: the component: what a frame is -/
theorem c_look89 {gp ad : Nat → Nat} {hb h : x_H} {F : Nat → Int32} {M : Nat → Nat → Int32} {s : SS} {mc ms : Nat} {post : (Nat → Int32) → (Nat → Nat → Int32) → x_H → Prop} {postX : String → (Nat → Int32) → (Nat → Nat → Int32) → x_H → Prop} (hB : Bs gp hb) (hR : RC gp ad hb F M h s) (hI : Inv s) (hl : s.g 28 ≤ 200) (hm : s.g 25 = 9 → 0 < s.g 27) (h0 : 0 ≤ s.g 53) (h1 : s.g 53 ≤ 1100) (hmc : 820 ≤ mc) (hms : 66400 ≤ ms)
    (hp : ∀ F' M' h', RC gp ad hb F' M' h' (SS.look2 ((s.p 29 0).p 30 (s.g 28))).2 → PX post postX (SS.look2 ((s.p 29 0).p 30 (s.g 28))).1 F' M' h') : wX1_look_b89 post postX gp ad F M h mc ms 1 := by
  refine ⟨0, 0, mc, ms, by omega, by omega, c_mustT (by decide) ?_⟩
  have f12 : F 12 = s.g 28 := hR.f 28 12
  have hR2 : RC gp ad hb (upd (upd F 13 0) 14 (F 12)) M h ((s.p 29 0).p 30 (s.g 28)) := by rw [f12]; exact (hR.set 29 13 0).set 30 14 _
  have hI2 : Inv ((s.p 29 0).p 30 (s.g 28)) := (hI.free 29 0).free 30 _
  have e25 : ((s.p 29 0).p 30 (s.g 28)).g 25 = s.g 25 := rfl
  have e28 : ((s.p 29 0).p 30 (s.g 28)).g 28 = s.g 28 := rfl
  have e27 : ((s.p 29 0).p 30 (s.g 28)).g 27 = s.g 27 := rfl
  have e53 : ((s.p 29 0).p 30 (s.g 28)).g 53 = s.g 53 := rfl
  have e29 : ((s.p 29 0).p 30 (s.g 28)).g 29 = 0 := rfl
  have e30 : ((s.p 29 0).p 30 (s.g 28)).g 30 = s.g 28 := rfl
  have f9 : F 9 = s.g 25 := hR.f 25 9
  have f11 : F 11 = s.g 27 := hR.f 27 11
  have f11' : upd (upd F 13 0) 14 (F 12) 11 = s.g 27 := f11
  have f12' : upd (upd F 13 0) 14 (F 12) 12 = s.g 28 := f12
  generalize ((s.p 29 0).p 30 (s.g 28)) = u at hR2 hI2 hp e25 e28 e27 e53 e29 e30
  generalize upd (upd F 13 0) 14 (F 12) = F2 at hR2 f11' f12'
  rw [f9, f11, f12]
  unfold SS.look2 at hp
  rw [e25] at hp
  have u0 : 0 ≤ u.g 53 := by rw [e53]; exact h0
  have u1 : u.g 53 ≤ 1100 := by rw [e53]; exact h1
  refine ⟨fun z => ?_, fun z => ?_, fun z => ?_, fun z => ?_, fun z => ?_, fun z => ?_, fun z => ?_, fun z => ?_, fun z0 z1 z3 z4 z6 z7 z8 z9 => ?_⟩
  · rw [if_pos z] at hp
    exact ⟨mc, ms, 0, 0, by omega, by omega, c_data hB hR2 hI2 (by rw [e30, e28]) u0 u1 (by omega) (by omega) hp⟩
  · rw [if_neg (by rw [z]; decide), if_pos z] at hp
    exact ⟨mc, ms, 0, 0, by omega, by omega, c_headers hB hR2 hI2 (by rw [e30, e28]) (by rw [e28]; exact hl) u0 (by lia) (by omega) (by omega) hp⟩
  · rw [if_neg (by rw [z]; decide), if_neg (by rw [z]; decide), if_pos z] at hp
    unfold SS.drop at hp
    rw [e28, e27] at hp
    refine ⟨fun w => ?_, fun w => ?_⟩
    · rw [if_pos w] at hp
      refine ⟨0, 0, mc, ms, by omega, by omega, c_mustT (by decide) ?_⟩
      rw [f11']
      have no : (s.g 27 = 0 ∨ u.idle (s.g 27)) → wX1_look_b227 post postX gp ad F2 M h mc ms := fun hc => by
        rw [if_pos hc] at hp
        exact ⟨1, 6, 0, 0, by omega, by omega, c_mustF hR2 (by omega) (by omega) fun F' hr h20 => PX.m 1 (hp F' M h hr) h20⟩
      refine ⟨fun y => no (Or.inl y), fun y => c_isIdle hR2 (fun hh => ⟨fun q => absurd q (by decide), fun _ => no (Or.inr hh)⟩) fun hh => ⟨fun _ => ?_, fun q => absurd rfl q⟩⟩
      rw [if_neg (fun q => q.elim y hh)] at hp
      refine ⟨0, 0, mc, ms, by omega, by omega, c_mustT (by decide) ⟨mc, ms, 0, 0, by omega, by omega, ?_⟩⟩
      rw [f11']
      exact c_over hB hR2 hI2.sts (by omega) (by omega) fun h' hr => (hp _ _ h' hr).ok
    · rw [if_neg w] at hp
      exact ⟨1, 6, 0, 0, by omega, by omega, c_mustF hR2 (by omega) (by omega) fun F' hr h20 => PX.m 6 (hp F' M h hr) h20⟩
  · rw [if_neg (by rw [z]; decide), if_neg (by rw [z]; decide), if_neg (by rw [z]; decide), if_pos z] at hp
    exact ⟨mc, ms, 0, 0, by omega, by omega, c_settings hB hR2 hI2 u0 u1 (by rw [e28]; exact hl) (by omega) (by omega) hp⟩
  · rw [if_neg (by rw [z]; decide), if_neg (by rw [z]; decide), if_neg (by rw [z]; decide), if_neg (by rw [z]; decide), if_pos z] at hp
    exact ⟨mc, ms, 0, 0, by omega, by omega, c_ping hR2 u0 u1 (by omega) (by omega) hp⟩
  · rw [if_neg (by rw [z]; decide), if_neg (by rw [z]; decide), if_neg (by rw [z]; decide), if_neg (by rw [z]; decide), if_neg (by rw [z]; decide), if_pos z] at hp
    unfold SS.gone at hp
    rw [e28, e27] at hp
    refine ⟨fun w => ⟨0, 0, mc, ms, by omega, by omega, c_mustT (by decide) ?_⟩, fun w => ?_⟩
    · rw [if_pos w] at hp
      rw [f12']
      refine ⟨fun y => ?_, fun y => ?_⟩
      · rw [if_pos y] at hp
        exact ⟨0, 0, mc, ms, by omega, by omega, c_mustT (by decide) (hp _ _ _ hR2).ok⟩
      · rw [if_neg y] at hp
        exact ⟨1, 6, 0, 0, by omega, by omega, c_mustF hR2 (by omega) (by omega) fun F' hr h20 => PX.m 6 (hp F' M h hr) h20⟩
    · rw [if_neg w] at hp
      exact ⟨1, 6, 0, 0, by omega, by omega, c_mustF hR2 (by omega) (by omega) fun F' hr h20 => PX.m 1 (hp F' M h hr) h20⟩
  · rw [if_neg (by rw [z]; decide), if_neg (by rw [z]; decide), if_neg (by rw [z]; decide), if_neg (by rw [z]; decide), if_neg (by rw [z]; decide), if_neg (by rw [z]; decide), if_pos z] at hp
    exact ⟨mc, ms, 0, 0, by omega, by omega, c_widen hB hR2 hI2 (by omega) (by omega) hp⟩
  · rw [if_neg (by rw [z]; decide), if_neg (by rw [z]; decide), if_neg (by rw [z]; decide), if_neg (by rw [z]; decide), if_neg (by rw [z]; decide), if_neg (by rw [z]; decide), if_neg (by rw [z]; decide), if_pos z] at hp
    obtain ⟨l, hl1, el⟩ := zi_nn (m := 200) (hI.r 28).1 (by decide) hl
    exact ⟨mc, ms, 0, 0, by omega, by omega, c_more hB hR2 hI2 (f := 0) (t := l) ⟨e29, by rw [e30]; exact el, Nat.zero_le _, hl1⟩ (by rw [e27]; exact hm z) u0 (by lia) (by omega) (by omega) hp⟩
  · rw [if_neg z0, if_neg z1, if_neg z3, if_neg z4, if_neg z6, if_neg z7, if_neg z8, if_neg z9] at hp
    exact (hp _ _ _ hR2).ok
theorem c_look {gp ad : Nat → Nat} {hb h : x_H} {F : Nat → Int32} {M : Nat → Nat → Int32} {s : SS} {mc ms : Nat} {post : (Nat → Int32) → (Nat → Nat → Int32) → x_H → Prop} {postX : String → (Nat → Int32) → (Nat → Nat → Int32) → x_H → Prop} (hB : Bs gp hb) (hR : RC gp ad hb F M h s) (hI : Inv s) (hl : s.g 28 ≤ 200) (h0 : 0 ≤ s.g 53) (h1 : s.g 53 ≤ 1100) (hmc : 820 ≤ mc) (hms : 66400 ≤ ms)
    (hp : ∀ F' M' h', RC gp ad hb F' M' h' s.look.2 → PX post postX s.look.1 F' M' h') : wX1_look post postX gp ad F M h mc ms := by
  unfold SS.look at hp
  have bad : (s.g 31 ≠ 0 ∧ (s.g 25 ≠ 4 ∨ s.has 1)) → wX1_look_b28 post postX gp ad F M h mc ms := fun hc => by
    rw [if_pos hc] at hp
    exact ⟨1, 6, 0, 0, by omega, by omega, c_mustF hR (by omega) (by omega) fun F' hr h20 => PX.m 1 (hp F' M h hr) h20⟩
  have good : ¬ (s.g 31 ≠ 0 ∧ (s.g 25 ≠ 4 ∨ s.has 1)) → wX1_look_b24 post postX gp ad F M h mc ms := fun hc => by
    rw [if_neg hc] at hp
    have hr := hR.set 31 15 0
    have hI1 : Inv (s.p 31 0) := hI.free 31 0
    have no : ¬ ((s.g 32 = -1 ∧ s.g 25 ≠ 9) ∨ (s.g 32 ≠ -1 ∧ s.g 25 = 9 ∧ s.g 27 = s.g 32)) → wX1_look_b89 post postX gp ad (upd F 15 0) M h mc ms 0 := fun q => by
      simp only [if_neg q] at hp
      exact ⟨1, 6, 0, 0, by omega, by omega, c_mustF hr (by omega) (by omega) fun F' hr h20 => PX.m 1 (hp F' M h hr) h20⟩
    have yes : ((s.g 32 = -1 ∧ s.g 25 ≠ 9) ∨ (s.g 32 ≠ -1 ∧ s.g 25 = 9 ∧ s.g 27 = s.g 32)) → wX1_look_b89 post postX gp ad (upd F 15 0) M h mc ms 1 := fun q => by
      simp only [if_pos q] at hp
      refine c_look89 hB hr hI1 hl (fun w => ?_) h0 h1 hmc hms hp
      have w : s.g 25 = 9 := w
      rcases q with q | q
      · exact absurd w q.2
      · show 0 < s.g 27
        rcases hI.g32 with y | y
        · exact absurd y q.1
        · rw [q.2.2]; exact y.1
    refine ⟨0, 0, mc, ms, by omega, by omega, c_mustT (by decide) ?_⟩
    rw [hR.f 32 16, hR.f 25 9, hR.f 27 11]
    refine ⟨fun z => ⟨fun w => no ?_, fun w => yes (Or.inl ⟨z, w⟩)⟩, fun z => ⟨fun w => ⟨fun y => yes (Or.inr ⟨z, w, y⟩), fun y => no ?_⟩, fun w => no ?_⟩⟩
    · rintro (q | q)
      · exact q.2 w
      · exact q.1 z
    · rintro (q | q)
      · exact z q.1
      · exact y q.2.2
    · rintro (q | q)
      · exact z q.1
      · exact w q.2.1
  unfold wX1_look
  rw [hR.f 31 15, hR.f 25 9]
  refine ⟨fun z => good fun q => q.1 z, fun z => ⟨fun w => c_has hR (fun hh => ⟨fun q => absurd q (by decide), fun _ => bad ⟨z, Or.inr hh⟩⟩) (fun hh => ⟨fun _ => good fun q => q.2.elim (fun y => y w) hh, fun q => absurd rfl q⟩), fun w => bad ⟨z, Or.inl w⟩⟩⟩
