set_option maxRecDepth 100000
/-! PURE PART 35: the component: close, DATA, RESET, AWAY, PING -/
theorem c_close {gp ad : Nat → Nat} {hb h : x_H} {F : Nat → Int32} {M : Nat → Nat → Int32} {s : SS} {ss qs : List Nat} {a : Nat} {st : St} {n : Int32} {mc ms : Nat} {post : (Nat → Int32) → (Nat → Nat → Int32) → x_H → Prop} {postX : String → (Nat → Int32) → (Nat → Nat → Int32) → x_H → Prop} (hB : Bs gp hb) (hR : RC gp ad hb F M h s) (hw : HW gp ad h s.sts ss qs) (hI : Inv s) (ha : a ∈ ss) (hst : isSt h a st) (hf : s.find n = some st) (h0 : 0 ≤ s.g 53) (h1 : s.g 53 ≤ 1190) (hmc : 2 ≤ mc) (hms : 26 ≤ ms)
    (hp : ∀ F' M' h', RC gp ad hb F' M' h' (SS.close n s).2 → PX post postX (SS.close n s).1 F' M' h') : wX1_close post postX gp ad a F M h mc ms := by
  obtain ⟨hs, hn⟩ := find_some hf
  obtain ⟨b, ma, pa, msx, a1, a2, a3, a4, a5⟩ := id hst
  refine ⟨20, _, a1, by decide, by show (6 : Nat) < 9; decide, ?_⟩
  intro h2 eh2
  have hk : kp [20] h h2 := by rw [eh2]; exact kp.set a1 (by simp)
  have hnew : isSt h2 a (st.set 18 1) := by
    refine ⟨b, ma, pa, msx, ?_, fun w => by simp [St.rw] at w ⊢; exact a2 w, a3.kpt hk (by decide) (by decide), by rw [a4]; simp [St.rw], a5.kpt hk (by decide) (by decide)⟩
    rw [eh2, x_hs_self]; simp [St.rw]
  have hm := hR.mod hB hw hI.sts ha hst hs hn (f := fun q => q.set 18 1) (by rw [← eh2]; exact hnew)
  rw [← eh2] at hm
  obtain ⟨m1, m2⟩ := hm
  have hm : InvS (SS.modSt n (fun q => q.set 18 1) s).sts := hI.sts.mod fun q hq e => ⟨by simp [St.rw], by simpa [St.rw] using hI.sts.left q hq, by simp [St.rw], by simpa [St.rw] using hI.sts.meth q hq⟩
  have hI1 : Inv (SS.modSt n (fun q => q.set 18 1) s) := (ok_ws hI hm).inv
  have hf1 : (SS.modSt n (fun q => q.set 18 1) s).find n = some (st.set 18 1) := by
    unfold SS.find
    rw [modSt_rw.2.2.2.2, mod_find fun q _ _ => by simp [St.rw]]
    rw [show s.sts.find? (fun q => q.num == n) = some st from hf]; rfl
  have ecl : SS.close n s = if st.len = -1 ∨ st.len = st.cnt then (0, SS.answer (st.set 18 1) (SS.modSt n (fun q => q.set 18 1) s)) else (101, SS.modSt n (fun q => q.set 18 1) s) := by
    rw [close_eq, hf1]; rfl
  rw [ecl] at hp
  obtain ⟨b', ma', pa', ms', d1, -⟩ := id hnew
  have e2 : (st.set 18 1).len = st.len := by simp [St.rw]
  have e3 : (st.set 18 1).cnt = st.cnt := by simp [St.rw]
  have yes : (st.len = -1 ∨ st.len = st.cnt) → wX1_close_b25 post postX gp ad a F M h2 mc ms := fun hc => by
    rw [if_pos hc] at hp
    refine ⟨1, 6, mc - 1, ms - 6, by omega, by omega, c_want m1 (by omega) (by omega) (fun _ => ⟨mc - 1, ms - 6, 0, 0, by omega, by omega, ?_⟩) fun z => absurd z (by decide)⟩
    exact c_answer hB m1 m2 hI1 ha hnew (find_some hf1).1 h0 h1 (by omega) (by omega) fun F' M' h' hr => (hp F' M' h' hr).ok
  refine ⟨_, ⟨_, _, d1, rfl⟩, fun z => yes (Or.inl (by rw [← e2]; exact z)), fun z => ⟨_, ⟨_, _, d1, rfl⟩, _, ⟨_, _, d1, rfl⟩, fun w => yes (Or.inr (by rw [← e2, ← e3]; exact w)), fun w => ?_⟩⟩
  rw [e2] at z
  rw [e2, e3] at w
  rw [if_neg (fun q => q.elim z w)] at hp
  exact ⟨1, 6, mc - 1, ms - 6, by omega, by omega, c_want m1 (by omega) (by omega) (fun q => absurd rfl q) fun _ F' hr h20 => PX.w 101 1 (hp F' M h2 hr) h20⟩
theorem c_data2 {gp ad : Nat → Nat} {hb h : x_H} {F : Nat → Int32} {M : Nat → Nat → Int32} {s : SS} {mc ms : Nat} {post : (Nat → Int32) → (Nat → Nat → Int32) → x_H → Prop} {postX : String → (Nat → Int32) → (Nat → Nat → Int32) → x_H → Prop} (hB : Bs gp hb) (hR : RC gp ad hb F M h s) (hI : Inv s) (h0 : 0 ≤ s.g 53) (h1 : s.g 53 ≤ 1190) (hmc : 10 ≤ mc) (hms : 100 ≤ ms)
    (hp : ∀ F' M' h', RC gp ad hb F' M' h' s.data2.2 → PX post postX s.data2.1 F' M' h') : wX1_data_b67 post postX gp ad F M h mc ms := by
  obtain ⟨ss, qs, hw⟩ := hR.2.2.2.1
  have hw : HW gp ad h s.sts ss qs := hw
  unfold wX1_data_b67
  rw [hR.f 27 11]
  have no : s.data2 = (105, s) → ∀ x1 : Option Nat, wX1_data_b93 post postX gp ad F M h mc ms x1 0 := fun e x1 => by
    rw [e] at hp
    exact ⟨1, 6, mc - 1, ms - 6, by omega, by omega, c_want hR (by omega) (by omega) (fun q => absurd rfl q) fun _ F' hr h20 => PX.w 105 5 (hp F' M h hr) h20⟩
  refine c_known hw hI.sts (fun hf => ⟨fun _ => no ?_ none, fun a q => (by cases q)⟩) (fun a st hf ha hst => ⟨fun q => (by cases q), fun a' q => ?_⟩)
  · have hf : s.find (s.g 27) = none := hf
    unfold SS.data2; rw [hf]
  · cases q
    have hf : s.find (s.g 27) = some st := hf
    obtain ⟨hs, hn⟩ := find_some hf
    obtain ⟨b, ma, pa, msx, a1, a2, a3, a4, a5⟩ := id hst
    have e : s.data2 = if st.closed ≠ 0 then (105, s) else if 50 < s.g 28 then (103, s) else if s.has 1 then SS.close (s.g 27) (SS.modSt (s.g 27) (fun q => q.set 14 (q.cnt + (s.g 30 - s.g 29))) s) else if 0 < s.g 28 then (0, SS.credit (s.g 27) (s.g 28) (SS.modSt (s.g 27) (fun q => q.set 14 (q.cnt + (s.g 30 - s.g 29))) s)) else (0, (SS.modSt (s.g 27) (fun q => q.set 14 (q.cnt + (s.g 30 - s.g 29))) s)) := by unfold SS.data2; rw [hf]
    refine ⟨_, ⟨_, _, a1, rfl⟩, fun hc => ?_, fun hc => no (by rw [e, if_pos hc]) _⟩
    rw [e, if_neg (fun q => q hc)] at hp
    -- it is open
    refine ⟨1, 6, mc - 1, ms - 6, by omega, by omega, c_want hR (by omega) (by omega) (fun _ => ?_) fun z => absurd z (by decide)⟩
    rw [hR.f 28 12]
    have big : 50 < s.g 28 → wX1_data_b112 post postX gp ad F M h (mc - 1) (ms - 6) (some a) 0 := fun hl => by
      rw [if_pos hl] at hp
      exact ⟨1, 6, mc - 2, ms - 12, by omega, by omega, c_want hR (by omega) (by omega) (fun q => absurd rfl q) fun _ F' hr h20 => PX.w 103 3 (hp F' M h hr) h20⟩
    refine ⟨big, fun hl => ?_⟩
    rw [if_neg hl] at hp
    refine ⟨1, 6, mc - 2, ms - 12, by omega, by omega, c_want hR (by omega) (by omega) (fun _ => ?_) fun z => absurd z (by decide)⟩
    refine ⟨a, rfl, _, ⟨_, _, a1, rfl⟩, 20, _, a1, by decide, by show (2 : Nat) < 9; decide, ?_⟩
    rw [hR.f 30 14, hR.f 29 13]
    intro h2 eh2
    have hk : kp [20] h h2 := by rw [eh2]; exact kp.set a1 (by simp)
    have hnew : isSt h2 a (st.set 14 (st.cnt + (s.g 30 - s.g 29))) := by
      refine ⟨b, ma, pa, msx, ?_, fun w => by simp [St.rw] at w ⊢; exact a2 w, a3.kpt hk (by decide) (by decide), by rw [a4]; simp [St.rw], a5.kpt hk (by decide) (by decide)⟩
      rw [eh2, x_hs_self]; simp [St.rw]
    have hm := hR.mod hB hw hI.sts ha hst hs hn (f := fun q => q.set 14 (q.cnt + (s.g 30 - s.g 29))) (by rw [← eh2]; exact hnew)
    rw [← eh2] at hm
    obtain ⟨m1, m2⟩ := hm
    have hm : InvS (SS.modSt (s.g 27) (fun q => q.set 14 (q.cnt + (s.g 30 - s.g 29))) s).sts := hI.sts.mod fun q hq e => ⟨by simp [St.rw], by simpa [St.rw] using hI.sts.left q hq, by simpa [St.rw] using hI.sts.closed q hq, by simpa [St.rw] using hI.sts.meth q hq⟩
    have hI1 : Inv (SS.modSt (s.g 27) (fun q => q.set 14 (q.cnt + (s.g 30 - s.g 29))) s) := (ok_ws hI hm).inv
    have hf1 : (SS.modSt (s.g 27) (fun q => q.set 14 (q.cnt + (s.g 30 - s.g 29))) s).find (s.g 27) = some (st.set 14 (st.cnt + (s.g 30 - s.g 29))) := by
      unfold SS.find
      rw [modSt_rw.2.2.2.2, mod_find fun q _ _ => by simp [St.rw]]
      rw [show s.sts.find? (fun q => q.num == s.g 27) = some st from hf]; rfl
    have f12 : F 12 = s.g 28 := hR.f 28 12
    have f11 : F 11 = s.g 27 := hR.f 27 11
    refine c_has m1 (fun hh => ⟨fun z => absurd z (by decide), fun _ => ?_⟩) (fun hh => ⟨fun _ => ⟨fun z => ?_, fun z => ?_⟩, fun z => absurd rfl z⟩)
    · have hh' : s.has 1 := hh
      rw [if_pos hh'] at hp
      exact ⟨mc - 2, ms - 12, 0, 0, by omega, by omega, c_close hB m1 m2 hI1 ha hnew hf1 h0 h1 (by omega) (by omega) hp⟩
    · have hh' : ¬ s.has 1 := hh
      rw [f12] at z
      rw [if_neg hh', if_neg (by lia)] at hp
      exact (hp _ _ _ m1).ok
    · have hh' : ¬ s.has 1 := hh
      rw [f12] at z
      rw [if_neg hh', if_pos (by lia)] at hp
      rw [f11, f12]
      exact c_credit m1 h0 (by show s.g 53 ≤ 1194; lia) (hI.r 28).1 (hI.r 28).2 fun F' M' hr => (hp _ _ _ hr).ok
theorem c_data {gp ad : Nat → Nat} {hb h : x_H} {F : Nat → Int32} {M : Nat → Nat → Int32} {s : SS} {mc ms : Nat} {post : (Nat → Int32) → (Nat → Nat → Int32) → x_H → Prop} {postX : String → (Nat → Int32) → (Nat → Nat → Int32) → x_H → Prop} (hB : Bs gp hb) (hR : RC gp ad hb F M h s) (hI : Inv s) (h30 : s.g 30 = s.g 28) (h0 : 0 ≤ s.g 53) (h1 : s.g 53 ≤ 1100) (hmc : 20 ≤ mc) (hms : 200 ≤ ms)
    (hp : ∀ F' M' h', RC gp ad hb F' M' h' s.data.2 → PX post postX s.data.1 F' M' h') : wX1_data post postX gp ad F M h mc ms := by
  unfold wX1_data
  rw [hR.f 27 11]
  have bad : (s.g 27 = 0 ∨ s.idle (s.g 27)) → wX1_data_b23 post postX gp ad F M h mc ms := fun hc => by
    have e : s.data = (1, s) := by unfold SS.data; rw [if_pos hc]
    rw [e] at hp
    exact ⟨1, 6, mc - 1, ms - 6, by omega, by omega, c_must hR (by omega) (by omega) (fun q => absurd rfl q) fun _ F' hr h20 => PX.m 1 (hp F' M h hr) h20⟩
  refine ⟨fun z => bad (Or.inl z), fun z => c_isIdle hR (fun w => ⟨fun q => absurd q (by decide), fun _ => bad (Or.inr w)⟩) (fun w => ⟨fun _ => ?_, fun q => absurd rfl q⟩)⟩
  have e : s.data = if s.unpad.1 = true then (if 80 < s.g 28 then (3, s.unpad.2) else SS.data2 (if 0 < s.g 28 then SS.credit 0 (s.g 28) s.unpad.2 else s.unpad.2)) else (1, s.unpad.2) := by
    unfold SS.data; rw [if_neg (fun q => q.elim z w)]
  rw [e] at hp
  obtain ⟨u1, u2, u3, u4, u5⟩ := unpad_rw s
  refine ⟨1, 6, mc - 1, ms - 6, by omega, by omega, c_must hR (by omega) (by omega) (fun _ => ⟨1, 6, mc - 2, ms - 12, by omega, by omega, ?_⟩) fun q => absurd q (by decide)⟩
  refine c_unpad hR hI h30 (by omega) (by omega) (fun hu F1 hr => ?_) (fun hu F1 hr h20 => ?_)
  · rw [if_pos hu] at hp
    have f12 : F1 12 = s.g 28 := (hr.f 28 12).trans (u1 28 (by decide) (by decide))
    rw [f12]
    refine ⟨fun q => ?_, fun q => ?_⟩
    · rw [if_pos q] at hp
      exact ⟨1, 6, mc - 3, ms - 18, by omega, by omega, c_must hr (by omega) (by omega) (fun q => absurd rfl q) fun _ F' hr' h20 => PX.m 3 (hp F' M h hr') h20⟩
    · rw [if_neg q] at hp
      refine ⟨1, 6, mc - 3, ms - 18, by omega, by omega, c_must hr (by omega) (by omega) (fun _ => ?_) fun q => absurd q (by decide)⟩
      rw [f12]
      refine ⟨fun y => ?_, fun y => ?_⟩
      · rw [if_neg (by lia)] at hp
        exact c_data2 hB hr hI.unpad (by rw [u1 53 (by decide) (by decide)]; exact h0) (by rw [u1 53 (by decide) (by decide)]; lia) (by omega) (by omega) hp
      · rw [if_pos (by lia)] at hp
        refine c_credit hr (by rw [u1 53 (by decide) (by decide)]; exact h0) (by rw [u1 53 (by decide) (by decide)]; lia) (hI.r 28).1 (hI.r 28).2 fun F2 M2 hr2 => c_data2 hB hr2 (hI.unpad.credit _ _) ?_ ?_ (by omega) (by omega) hp
        all_goals rw [credit_rw.1, if_pos rfl, u1 53 (by decide) (by decide)]; lia
  · rw [if_neg (by rw [hu]; decide)] at hp
    exact PX.m 1 (hp F1 M h hr) h20
theorem c_ping {gp ad : Nat → Nat} {hb h : x_H} {F : Nat → Int32} {M : Nat → Nat → Int32} {s : SS} {mc ms : Nat} {post : (Nat → Int32) → (Nat → Nat → Int32) → x_H → Prop} {postX : String → (Nat → Int32) → (Nat → Nat → Int32) → x_H → Prop} (hR : RC gp ad hb F M h s) (h0 : 0 ≤ s.g 53) (h1 : s.g 53 ≤ 1100) (hmc : 20 ≤ mc) (hms : 200 ≤ ms)
    (hp : ∀ F' M' h', RC gp ad hb F' M' h' s.ping.2 → PX post postX s.ping.1 F' M' h') : wX1_ping post postX ad F M h mc ms := by
  unfold SS.ping at hp
  unfold wX1_ping
  rw [hR.f 27 11]
  have f12 : F 12 = s.g 28 := hR.f 28 12
  refine ⟨fun z => ⟨1, 6, mc - 1, ms - 6, by omega, by omega, c_must hR (by omega) (by omega) (fun _ => ?_) fun q => absurd q (by decide)⟩, fun z => ⟨1, 6, mc - 1, ms - 6, by omega, by omega, c_must hR (by omega) (by omega) (fun q => absurd rfl q) fun _ F' hr h20 => ?_⟩⟩
  · rw [if_pos z] at hp
    rw [f12]
    refine ⟨fun w => ⟨1, 6, mc - 2, ms - 12, by omega, by omega, c_must hR (by omega) (by omega) (fun _ => ?_) fun q => absurd q (by decide)⟩, fun w => ⟨1, 6, mc - 2, ms - 12, by omega, by omega, c_must hR (by omega) (by omega) (fun q => absurd rfl q) fun _ F' hr h20 => ?_⟩⟩
    · rw [if_pos w] at hp
      refine c_has hR (fun hh => ⟨fun w => absurd w (by decide), fun _ => ?_⟩) (fun hh => ⟨fun _ => ?_, fun w => absurd rfl w⟩)
      · rw [if_pos hh] at hp; exact (hp _ _ _ hR).ok
      · rw [if_neg hh] at hp
        refine c_head hR h0 (by lia) fun F1 M1 hr k1 => ⟨5, ?_⟩
        have l : ¬ (4 : Int32) ≤ 0 ∧ ¬ (4 : Int32) ≤ 0 + 1 ∧ ¬ (4 : Int32) ≤ 0 + 1 + 1 ∧ ¬ (4 : Int32) ≤ 0 + 1 + 1 + 1 ∧ (4 : Int32) ≤ 0 + 1 + 1 + 1 + 1 := by decide
        refine ⟨fun w => absurd w l.1, fun _ => c_byteAt (k := 0) hr (by decide) (c_say hr ?_ ?_ fun F2 M2 hr k2 => ⟨fun w => absurd w l.2.1, fun _ => c_byteAt (k := 1) hr (by decide) (c_say hr ?_ ?_ fun F3 M3 hr k3 => ⟨fun w => absurd w l.2.2.1, fun _ => c_byteAt (k := 2) hr (by decide) (c_say hr ?_ ?_ fun F4 M4 hr k4 => ⟨fun w => absurd w l.2.2.2.1, fun _ => c_byteAt (k := 3) hr (by decide) (c_say hr ?_ ?_ fun F5 M5 hr k5 => ⟨fun _ => (hp _ _ _ hr).ok, fun w => absurd l.2.2.2.2 w⟩)⟩)⟩)⟩)⟩
        any_goals (simp only [say_rw, head_rw, if_true]; lia)
    · rw [if_neg w] at hp
      exact PX.m 6 (hp F' M h hr) h20
  · rw [if_neg z] at hp
    exact PX.m 1 (hp F' M h hr) h20
