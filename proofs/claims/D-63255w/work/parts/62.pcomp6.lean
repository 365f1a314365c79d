set_option maxRecDepth 100000
/-! PURE PART 36: the component: WINDOW, SETTINGS -/
theorem c_widen {gp ad : Nat → Nat} {hb h : x_H} {F : Nat → Int32} {M : Nat → Nat → Int32} {s : SS} {mc ms : Nat} {post : (Nat → Int32) → (Nat → Nat → Int32) → x_H → Prop} {postX : String → (Nat → Int32) → (Nat → Nat → Int32) → x_H → Prop} (hB : Bs gp hb) (hR : RC gp ad hb F M h s) (hI : Inv s) (hmc : 20 ≤ mc) (hms : 200 ≤ ms)
    (hp : ∀ F' M' h', RC gp ad hb F' M' h' s.widen.2 → PX post postX s.widen.1 F' M' h') : wX1_widen post postX ad F M h mc ms := by
  obtain ⟨ss, qs, hw⟩ := hR.2.2.2.1
  have hw : HW gp ad h s.sts ss qs := hw
  have f11 : F 11 = s.g 27 := hR.f 27 11
  have f12 : F 12 = s.g 28 := hR.f 28 12
  have f22 : F 22 = s.g 50 := hR.f 50 22
  unfold SS.widen at hp
  unfold wX1_widen
  rw [f12]
  refine ⟨fun z => ⟨1, 6, mc - 1, ms - 6, by omega, by omega, c_must hR (by omega) (by omega) (fun _ => ?_) fun q => absurd q (by decide)⟩, fun z => ⟨1, 6, mc - 1, ms - 6, by omega, by omega, c_must hR (by omega) (by omega) (fun q => absurd rfl q) fun _ F' hr h20 => ?_⟩⟩
  · rw [if_pos z] at hp
    rw [f11]
    refine c_isIdle hR (fun hh => ⟨fun w => absurd w (by decide), fun _ => ?_⟩) (fun hh => ⟨fun _ => ?_, fun w => absurd rfl w⟩)
    · rw [if_pos hh] at hp
      exact ⟨1, 6, mc - 2, ms - 12, by omega, by omega, c_must hR (by omega) (by omega) (fun q => absurd rfl q) fun _ F' hr h20 => PX.m 1 (hp F' M h hr) h20⟩
    · rw [if_neg hh] at hp
      refine ⟨1, 6, mc - 2, ms - 12, by omega, by omega, c_must hR (by omega) (by omega) (fun _ => ?_) fun q => absurd q (by decide)⟩
      refine c_byteAt (k := 0) hR (by decide) (c_byteAt (k := 1) hR (by decide) ?_)
      show wX1_known (fun r76 => (F 11 = 0 → ((s.a 24 4 * 256 + s.a 24 5 ≤ 0 → wX1_widen_b82 post postX ad F M h (mc - 2) (ms - 12) (s.a 24 4 * 256 + s.a 24 5) 0) ∧ (¬ s.a 24 4 * 256 + s.a 24 5 ≤ 0 → wX1_widen_b82 post postX ad F M h (mc - 2) (ms - 12) (s.a 24 4 * 256 + s.a 24 5) 1))) ∧ (¬ F 11 = 0 → ((r76 = none → wX1_widen_b171 post postX ad F M h (mc - 2) (ms - 12)) ∧ (∀ a78 : Nat, r76 = some a78 → ((s.a 24 4 * 256 + s.a 24 5 ≤ 0 → wX1_widen_b135 post postX ad F M h (mc - 2) (ms - 12) (s.a 24 4 * 256 + s.a 24 5) a78 0) ∧ (¬ s.a 24 4 * 256 + s.a 24 5 ≤ 0 → wX1_widen_b135 post postX ad F M h (mc - 2) (ms - 12) (s.a 24 4 * 256 + s.a 24 5) a78 1)))))) ad (F 11) F M h
      rw [f11]
      have hb4 := hI.fr 4
      have hb5 := hI.fr 5
      obtain ⟨p, hp4, e4⟩ := zi_nn (m := 255) hb4.1 (by decide) hb4.2
      obtain ⟨q, hq5, e5⟩ := zi_nn (m := 255) hb5.1 (by decide) hb5.2
      have ex : s.a 24 4 * 256 + s.a 24 5 = Int32.ofNat (p * 256 + q) := by
        rw [e4, e5, show (256 : Int32) = Int32.ofNat 256 from rfl, zi_mul, zi_add]
      have hx0 : (0 : Int32) ≤ s.a 24 4 * 256 + s.a 24 5 := by rw [ex]; exact zb0 (by omega)
      generalize s.a 24 4 * 256 + s.a 24 5 = x at hp hx0 ⊢
      -- the connection's window
      have zero : s.g 27 = 0 → (x ≤ 0 → wX1_widen_b82 post postX ad F M h (mc - 2) (ms - 12) x 0) ∧ (¬ x ≤ 0 → wX1_widen_b82 post postX ad F M h (mc - 2) (ms - 12) x 1) := by
        intro e
        simp only [if_pos e] at hp
        refine ⟨fun w => ?_, fun w => ?_⟩
        · rw [if_pos (by lia)] at hp
          exact ⟨1, 6, mc - 3, ms - 18, by omega, by omega, c_must hR (by omega) (by omega) (fun q => absurd rfl q) fun _ F' hr h20 => PX.m 1 (hp F' M h hr) h20⟩
        · rw [if_neg (by lia)] at hp
          refine ⟨1, 6, mc - 3, ms - 18, by omega, by omega, c_must hR (by omega) (by omega) (fun _ => ?_) fun q => absurd q (by decide)⟩
          rw [f22]
          refine ⟨fun y => ?_, fun y => ?_⟩
          · rw [if_pos y] at hp
            exact ⟨1, 6, mc - 4, ms - 24, by omega, by omega, c_must hR (by omega) (by omega) (fun q => absurd rfl q) fun _ F' hr h20 => PX.m 3 (hp F' M h hr) h20⟩
          · rw [if_neg y] at hp
            refine ⟨1, 6, mc - 4, ms - 24, by omega, by omega, c_must hR (by omega) (by omega) (fun _ => ?_) fun q => absurd q (by decide)⟩
            rw [f22]
            exact (hp _ _ _ (hR.set 50 22 _)).ok
      refine c_known hw hI.sts (fun hf => ⟨zero, fun e => ⟨fun _ => ?_, fun a q => (by cases q)⟩⟩) (fun a st hf ha hst => ⟨zero, fun e => ⟨fun q => (by cases q), fun a' q => ?_⟩⟩)
      · have hf : s.find (s.g 27) = none := hf
        rw [if_neg e, hf] at hp
        exact (hp _ _ _ hR).ok
      · cases q
        have hf : s.find (s.g 27) = some st := hf
        obtain ⟨hs, hn⟩ := find_some hf
        obtain ⟨b, ma, pa, msx, a1, a2, a3, a4, a5⟩ := id hst
        rw [if_neg e, hf] at hp
        refine ⟨fun w => ?_, fun w => ?_⟩
        · simp only [if_pos (show x = 0 by lia)] at hp
          exact ⟨1, 6, mc - 3, ms - 18, by omega, by omega, c_want hR (by omega) (by omega) (fun q => absurd rfl q) fun _ F' hr h20 => PX.w 101 1 (hp F' M h hr) h20⟩
        · simp only [if_neg (show ¬ x = 0 by lia)] at hp
          refine ⟨1, 6, mc - 3, ms - 18, by omega, by omega, c_want hR (by omega) (by omega) (fun _ => ⟨_, ⟨_, _, a1, rfl⟩, fun y => ?_, fun y => ?_⟩) fun q => absurd q (by decide)⟩
          · simp only [if_pos y] at hp
            exact ⟨1, 6, mc - 4, ms - 24, by omega, by omega, c_want hR (by omega) (by omega) (fun q => absurd rfl q) fun _ F' hr h20 => PX.w 103 3 (hp F' M h hr) h20⟩
          · simp only [if_neg y] at hp
            refine ⟨1, 6, mc - 4, ms - 24, by omega, by omega, c_want hR (by omega) (by omega) (fun _ => ⟨_, ⟨_, _, a1, rfl⟩, 20, _, a1, by decide, by show (1 : Nat) < 9; decide, ?_⟩) fun q => absurd q (by decide)⟩
            intro h2 eh2
            have hk : kp [20] h h2 := by rw [eh2]; exact kp.set a1 (by simp)
            have hnew : isSt h2 a (st.set 13 (st.win + x)) := by
              refine ⟨b, ma, pa, msx, ?_, fun w => by simp [St.rw] at w ⊢; exact a2 w, a3.kpt hk (by decide) (by decide), by rw [a4]; simp [St.rw], a5.kpt hk (by decide) (by decide)⟩
              rw [eh2, x_hs_self]; simp [St.rw]
            have hm := hR.mod hB hw hI.sts ha hst hs hn (f := fun q => q.set 13 (q.win + x)) (by rw [← eh2]; exact hnew)
            rw [← eh2] at hm
            exact (hp _ _ _ hm.1).ok
  · rw [if_neg z] at hp
    exact PX.m 6 (hp F' M h hr) h20
theorem All2.impI {α β : Type} {R R' : α → β → Prop} : ∀ {as : List α} {bs : List β}, All2 R as bs → (∀ (j : Nat) (a : α) (b : β), as[j]? = some a → bs[j]? = some b → R a b → R' a b) → All2 R' as bs
  | [], [], _, _ => trivial
  | a :: as, b :: bs, h, hi => ⟨hi 0 a b rfl rfl h.1, All2.impI h.2 fun j x y hx hy => hi (j + 1) x y (by simpa using hx) (by simpa using hy)⟩
  | [], _ :: _, h, _ => h.elim
  | _ :: _, [], h, _ => h.elim
theorem All2.set {α β : Type} {R R' : α → β → Prop} : ∀ {as : List α} {bs : List β} {i : Nat} {b' : β}, All2 R as bs → (∀ (j : Nat) (a : α) (b : β), j ≠ i → as[j]? = some a → bs[j]? = some b → R a b → R' a b) → (∀ a, as[i]? = some a → R' a b') → All2 R' as (bs.set i b')
  | [], [], _, _, _, _, _ => by simp [All2]
  | a :: as, b :: bs, 0, b', h, h1, h2 => ⟨h2 a rfl, h.2.impI fun j x y hx hy r => h1 (j + 1) x y (by omega) (by simpa using hx) (by simpa using hy) r⟩
  | a :: as, b :: bs, i + 1, b', h, h1, h2 => ⟨h1 0 a b (by omega) rfl rfl h.1, All2.set h.2 (fun j x y hj hx hy r => h1 (j + 1) x y (by omega) (by simpa using hx) (by simpa using hy) r) (fun x hx => h2 x (by simpa using hx))⟩
  | [], _ :: _, _, _, h, _, _ => h.elim
  | _ :: _, [], _, _, h, _, _ => h.elim
/-- one stream's cell written, by its place -/
theorem HW.setI {gp ad : Nat → Nat} {h : x_H} {l : List St} {ss qs : List Nat} {a i : Nat} {st st' : St} {e : x_E} (hw : HW gp ad h l ss qs) (ha : ss[i]? = some a) (hst : isSt h a st) (hnew : isSt (x_hs h a 20 e) a st') : HW gp ad (x_hs h a 20 e) (l.set i st') ss qs := by
  obtain ⟨b, ma, pa, ms, c1, -⟩ := hst
  have hk : kp [20] h (x_hs h a 20 e) := kp.set c1 (by simp)
  obtain ⟨a1, a2, a3, a4, a5, a6⟩ := hw
  have nd := List.nodup_append.mp a5
  refine ⟨a1.kpt hk (by simp) (by simp), a2.kpt hk (by simp) (by simp), a3.set (fun j a' q hj hja hq r => r.other ?_ c1) (fun a' ha' => ?_), fun q hq => ?_, a5, a6⟩
  · intro w
    subst w
    have h1 := (List.getElem?_eq_some_iff.mp ha)
    have h2 := (List.getElem?_eq_some_iff.mp hja)
    have := (List.nodup_iff_pairwise_ne.mp nd.1)
    have hp := List.pairwise_iff_getElem.mp this
    rcases Nat.lt_trichotomy i j with x | x | x
    · exact hp i j h1.1 h2.1 x (by rw [h1.2, h2.2])
    · exact hj x.symm
    · exact hp j i h2.1 h1.1 x (by rw [h1.2, h2.2])
  · rw [ha] at ha'
    rw [← Option.some.inj ha']; exact hnew
  · obtain ⟨fs, f1, f2⟩ := a4 q hq
    have hne : q ≠ a := fun w => by
      subst w
      exact nd.2.2 q (List.mem_of_getElem? ha) q hq rfl
    exact ⟨fs, by rw [x_hs_ne hne]; exact f1, f2⟩
theorem setI_step {l : List St} {f : St → St} {i : Nat} (hi : i < l.length) : ((l.take i).map f ++ l.drop i).set i (f l[i]) = (l.take (i + 1)).map f ++ l.drop (i + 1) := by
  have h1 : ((l.take i).map f).length = i := by simp; omega
  rw [List.set_append, if_neg (by omega), h1, Nat.sub_self, List.drop_eq_getElem_cons hi, List.set_cons_zero, List.take_succ, List.getElem?_eq_getElem hi]
  show _ = List.map f (List.take i l ++ [l[i]]) ++ _
  rw [List.map_append, List.append_assoc]
  rfl
/-- what is kept where only the streams' cells change -/
theorem RC.cells {gp ad : Nat → Nat} {hb h h' : x_H} {F : Nat → Int32} {M : Nat → Nat → Int32} {s s' : SS} {ss qs : List Nat} (hB : Bs gp hb) (hR : RC gp ad hb F M h s) (hk : kp [20] h h') (hw : HW gp ad h' s'.sts ss qs) (hg : s'.g = s.g) (ha : s'.a = s.a) (hp : s'.pages = s.pages) (hc : s'.came = s.came) : RC gp ad hb F M h' s' := by
  obtain ⟨hF, hb0, hpg, -, hfl, hfx, hcm, hsb⟩ := hR
  refine ⟨hF.cong hg ha, hB.kpt hb0 hk (by decide), ?_, hw.st, hfl.elim fun fs h => ⟨fs, h.kpt hk (by decide)⟩, hfx.kpt hk (by decide), ?_, hsb.kpt hk (by decide)⟩
  · rw [hp]; exact hpg.kpt hk (by decide)
  · rw [hc]; exact hcm.kpt hk (by decide)
theorem c_set4 {gp ad : Nat → Nat} {hb : x_H} {F : Nat → Int32} {M : Nat → Nat → Int32} {s : SS} {x1 v : Int32} {mc ms : Nat} {ss qs : List Nat} {post : (Nat → Int32) → (Nat → Nat → Int32) → x_H → Prop} {postX : String → (Nat → Int32) → (Nat → Nat → Int32) → x_H → Prop} {K66 : (Nat → Int32) → (Nat → Nat → Int32) → x_H → Nat → Nat → Int32 → Prop} {h0 : x_H} (hB : Bs gp hb) (hR : RC gp ad hb F M h0 s) (hi : InvS s.sts)
    (fin : ∀ h', RC gp ad hb F M h' (s.ws (s.sts.map (fun st => st.set 13 (st.win + (v - s.g 51))))) → wX1_settings_b139 post postX K66 ad F M h' mc ms x1 v) :
    ∀ (d i : Nat) (h : x_H), i + d = ss.length → kp [20] h0 h → HW gp ad h ((s.sts.take i).map (fun st => st.set 13 (st.win + (v - s.g 51))) ++ s.sts.drop i) ss qs → wX1_settings_b93 post postX K66 ad (d + 1) F M h mc ms x1 v (Int32.ofNat i) := by
  intro d
  induction d with
  | zero =>
    intro i h hid hk hw
    have hlen : ss.length = s.sts.length := by
      have := hw.2.2.1.len
      simp at this; omega
    have l4 := hi.len
    obtain ⟨fs1, hc1⟩ := hw.1.cell
    refine ⟨_, _, hc1, pJ2_size hw.1 ⟨fun _ => fin h ?_, fun z => absurd ((zi_le (by omega) (by omega)).mpr (by omega)) z⟩⟩
    rw [List.take_of_length_le (by omega), List.drop_eq_nil_of_le (by omega), List.append_nil] at hw
    exact hR.cells hB hk hw rfl rfl rfl rfl
  | succ d ih =>
    intro i h hid hk hw
    have hlen : ss.length = s.sts.length := by
      have := hw.2.2.1.len
      simp at this; omega
    have l4 := hi.len
    have hil : i < s.sts.length := by omega
    obtain ⟨fs1, hc1⟩ := hw.1.cell
    refine ⟨_, _, hc1, pJ2_size hw.1 ⟨fun z => ?_, fun _ => ⟨_, _, hc1, pJ2_get hw.1 (by omega) fun a hsa => ?_⟩⟩⟩
    · rw [zi_le (by omega) (by omega)] at z; omega
    obtain ⟨st, hst, hcell⟩ := hw.2.2.1.get hsa
    have hst' : st = s.sts[i] := by
      have h1 : ((s.sts.take i).map (fun st : St => st.set 13 (st.win + (v - s.g 51)))).length = i := by simp; omega
      rw [List.getElem?_append_right (by omega), h1, Nat.sub_self, List.drop_eq_getElem_cons hil] at hst
      exact (Option.some.inj hst).symm
    obtain ⟨b, ma, pa, msx, a1, a2, a3, a4, a5⟩ := id hcell
    refine ⟨a, rfl, _, _, a1, _, ⟨_, _, a1, rfl⟩, 20, _, a1, by decide, by show (1 : Nat) < 9; decide, ?_⟩
    rw [show F 23 = s.g 51 from hR.f 51 23]
    intro h2 eh2
    have hk2 : kp [20] h h2 := by rw [eh2]; exact kp.set a1 (by simp)
    have hnew : isSt h2 a (st.set 13 (st.win + (v - s.g 51))) := by
      refine ⟨b, ma, pa, msx, ?_, fun w => by simp [St.rw] at w ⊢; exact a2 w, a3.kpt hk2 (by decide) (by decide), by rw [a4]; simp [St.rw], a5.kpt hk2 (by decide) (by decide)⟩
      rw [eh2, x_hs_self]; simp [St.rw]
    have hw2 := hw.setI (st' := st.set 13 (st.win + (v - s.g 51))) hsa hcell (by rw [← eh2]; exact hnew)
    rw [← eh2, hst', setI_step (f := fun st : St => st.set 13 (st.win + (v - s.g 51))) hil] at hw2
    rw [zi_succ]
    exact ih (i + 1) h2 (by omega) (hk.tr hk2) hw2
theorem c_setLoop {gp ad : Nat → Nat} {hb : x_H} {post : (Nat → Int32) → (Nat → Nat → Int32) → x_H → Prop} {postX : String → (Nat → Int32) → (Nat → Nat → Int32) → x_H → Prop} (hB : Bs gp hb) : ∀ (d k mc ms : Nat) (F : Nat → Int32) (M : Nat → Nat → Int32) (h : x_H) (s : SS), RC gp ad hb F M h s → Inv s → 0 ≤ s.g 53 → s.g 53 ≤ 1190 → s.g 28 = Int32.ofNat (k + 2 * d) → k + 2 * d ≤ 200 → d + 1 ≤ mc → 6 * d + 6 ≤ ms → (∀ F' M' h', RC gp ad hb F' M' h' (SS.setLoop d k s).2 → PX post postX (SS.setLoop d k s).1 F' M' h') → wX1_settings_b66 post postX ad (d + 1) F M h mc ms (Int32.ofNat k) := by
  intro d
  induction d with
  | zero =>
    intro k mc ms F M h s hR hi h0 h1 hl hk hmc hms hp
    refine ⟨fun _ => c_head hR h0 (by lia) fun F' M' hr k1 => (hp _ _ _ hr).ok, fun z => absurd ?_ z⟩
    rw [hR.f 28 12, hl, zi_le (by omega) (by omega)]; omega
  | succ d ih =>
    intro k mc ms F M h s hR hi h0 h1 hl hk hmc hms hp
    have e2 : Int32.ofNat k + 2 = Int32.ofNat (k + 2) := zi_add k 2
    refine ⟨fun z => ?_, fun _ => ?_⟩
    · rw [hR.f 28 12, hl, zi_le (by omega) (by omega)] at z; omega
    have es : SS.setLoop (d + 1) k s = if s.a 24 (4 + k) = 4 then SS.setLoop d (k + 2) ((s.ws (s.sts.map (fun st => st.set 13 (st.win + (s.a 24 (5 + k) - s.g 51))))).p 51 (s.a 24 (5 + k))) else if s.a 24 (4 + k) = 5 then (if s.a 24 (5 + k) < 16 then (1, s) else SS.setLoop d (k + 2) (s.p 52 (s.a 24 (5 + k)))) else SS.setLoop d (k + 2) s := rfl
    rw [es] at hp
    rw [zi_succ]
    refine c_byteAt (k := k + 1) hR (by omega) ?_
    rw [show 4 + (k + 1) = 5 + k by omega]
    refine c_byteAt (k := k) hR (by omega) ⟨fun q4 => ?_, fun q4 => c_byteAt (k := k) hR (by omega) ⟨fun q5 => ⟨fun q => ?_, fun q => ?_⟩, fun q5 => ?_⟩⟩
    · rw [if_pos q4] at hp
      obtain ⟨ss, qs, hw⟩ := hR.2.2.2.1
      have hw : HW gp ad h s.sts ss qs := hw
      refine ⟨ss.length + 1, c_set4 (ss := ss) (qs := qs) hB hR hi.sts (fun h' hr => ?_) ss.length 0 h (by omega) kp.rf (by simpa using hw)⟩
      show wX1_settings_b66 post postX ad (d + 1) (upd F 23 (s.a 24 (5 + k))) M h' mc ms (Int32.ofNat k + 2)
      rw [e2]
      exact ih (k + 2) mc ms _ M h' _ (hr.set 51 23 (s.a 24 (5 + k))) ((hi.wins _).free 51 _) h0 h1 (by show s.g 28 = _; rw [hl]; congr 1; omega) (by omega) (by omega) (by omega) hp
    · rw [if_neg q4, if_pos q5, if_pos q] at hp
      exact ⟨1, 6, mc - 1, ms - 6, by omega, by omega, c_must hR (by omega) (by omega) (fun q => absurd rfl q) fun _ F' hr h20 => PX.m 1 (hp F' M h hr) h20⟩
    · rw [if_neg q4, if_pos q5, if_neg q] at hp
      refine ⟨1, 6, mc - 1, ms - 6, by omega, by omega, c_must hR (by omega) (by omega) (fun _ => ?_) fun q => absurd q (by decide)⟩
      show wX1_settings_b66 post postX ad (d + 1) (upd F 24 (s.a 24 (5 + k))) M h (mc - 1) (ms - 6) (Int32.ofNat k + 2)
      rw [e2]
      exact ih (k + 2) _ _ _ M h _ (hR.set 52 24 (s.a 24 (5 + k))) (hi.cong (s' := s.p 52 (s.a 24 (5 + k))) (hi.g.set52 _ ⟨by lia, (hi.fr _).2⟩) rfl rfl rfl rfl rfl hi.sts) h0 h1 (by show s.g 28 = _; rw [hl]; congr 1; omega) (by omega) (by omega) (by omega) hp
    · rw [if_neg q4, if_neg q5] at hp
      show wX1_settings_b66 post postX ad (d + 1) F M h mc ms (Int32.ofNat k + 2)
      rw [e2]
      exact ih (k + 2) _ _ _ M h _ hR hi h0 h1 (by rw [hl]; congr 1; omega) (by omega) (by omega) (by omega) hp
theorem c_settings {gp ad : Nat → Nat} {hb h : x_H} {F : Nat → Int32} {M : Nat → Nat → Int32} {s : SS} {mc ms : Nat} {post : (Nat → Int32) → (Nat → Nat → Int32) → x_H → Prop} {postX : String → (Nat → Int32) → (Nat → Nat → Int32) → x_H → Prop} (hB : Bs gp hb) (hR : RC gp ad hb F M h s) (hI : Inv s) (h0 : 0 ≤ s.g 53) (h1 : s.g 53 ≤ 1100) (hl : s.g 28 ≤ 200) (hmc : 200 ≤ mc) (hms : 1000 ≤ ms)
    (hp : ∀ F' M' h', RC gp ad hb F' M' h' s.settings.2 → PX post postX s.settings.1 F' M' h') : wX1_settings post postX ad F M h mc ms := by
  unfold SS.settings at hp
  unfold wX1_settings
  rw [hR.f 27 11]
  have f12 : F 12 = s.g 28 := hR.f 28 12
  have b28 := hI.r 28
  refine ⟨fun z => ⟨1, 6, mc - 1, ms - 6, by omega, by omega, c_must hR (by omega) (by omega) (fun _ => ?_) fun q => absurd q (by decide)⟩, fun z => ⟨1, 6, mc - 1, ms - 6, by omega, by omega, c_must hR (by omega) (by omega) (fun q => absurd rfl q) fun _ F' hr h20 => ?_⟩⟩
  · rw [if_pos z] at hp
    rw [f12]
    refine c_has hR (fun hh => ⟨fun w => absurd w (by decide), fun _ => ⟨fun w => ?_, fun w => ?_⟩⟩) (fun hh => ⟨fun _ => ⟨fun w => ?_, fun w => ?_⟩, fun w => absurd rfl w⟩)
    · rw [if_pos hh, if_pos w] at hp
      exact ⟨1, 6, mc - 2, ms - 12, by omega, by omega, c_must hR (by omega) (by omega) (fun _ => (hp _ _ _ hR).ok) fun q => absurd q (by decide)⟩
    · rw [if_pos hh, if_neg w] at hp
      exact ⟨1, 6, mc - 2, ms - 12, by omega, by omega, c_must hR (by omega) (by omega) (fun q => absurd rfl q) fun _ F' hr h20 => PX.m 6 (hp F' M h hr) h20⟩
    · have ho : ¬ odd (s.g 28) := fun q => (odd_iff b28.1 b28.2).mp q w
      rw [if_neg hh, if_neg ho] at hp
      obtain ⟨n, hn, en⟩ := zi_nn (m := 200) b28.1 (by decide) hl
      have ev : n % 2 = 0 := by
        rw [en, (zi_even (by omega)).1] at w; exact w
      rw [en, zi_nat (by omega)] at hp
      refine ⟨1, 6, mc - 2, ms - 12, by omega, by omega, c_must hR (by omega) (by omega) (fun _ => ?_) fun q => absurd q (by decide)⟩
      exact ⟨n / 2 + 1, c_setLoop hB (n / 2) 0 _ _ F M h s hR hI h0 (by lia) (by rw [en]; congr 1; omega) (by omega) (by omega) (by omega) hp⟩
    · have ho : odd (s.g 28) := (odd_iff b28.1 b28.2).mpr w
      rw [if_neg hh, if_pos ho] at hp
      exact ⟨1, 6, mc - 2, ms - 12, by omega, by omega, c_must hR (by omega) (by omega) (fun q => absurd rfl q) fun _ F' hr h20 => PX.m 6 (hp F' M h hr) h20⟩
  · rw [if_neg z] at hp
    exact PX.m 1 (hp F' M h hr) h20
