set_option maxRecDepth 100000
/-! PURE PART 48: the component: restart, what is asked of it -/
theorem upd_comm (f : Nat → Int32) {k j : Nat} (h : k ≠ j) (x y : Int32) : upd (upd f k x) j y = upd (upd f j y) k x := by
  funext i
  unfold upd
  by_cases e : i = j
  · subst e; simp [Ne.symm h]
  · simp [e]
theorem c_restart_loop {gp ad : Nat → Nat} {hb : x_H} {F : Nat → Int32} {M : Nat → Nat → Int32} {post : (Nat → Int32) → (Nat → Nat → Int32) → x_H → Prop} (hB : Bs gp hb) : ∀ (d : Nat) (h : x_H) (s : SS) (ss qs : List Nat) (mc ms : Nat), ss.length = d → RC gp ad hb F M h s → HW gp ad h s.sts ss qs → d ≤ mc → 20 * d ≤ ms → (∀ h' m1 m2, RC gp ad hb F M h' (s.ws []) → wX1_restart_b32 post gp ad F M h' m1 m2) → wX1_restart_b0 post gp ad (d + 1) F M h mc ms := by
  intro d
  induction d with
  | zero =>
    intro h s ss qs mc ms hl hR hw hmc hms hp
    obtain ⟨a1, a2, a3, a4, a5, a6⟩ := hw
    obtain ⟨fs1, hc1⟩ := a1.cell
    have : s.sts = [] := List.eq_nil_of_length_eq_zero (by rw [← a3.len]; exact hl)
    have e : s.ws [] = s := by rw [← this]; rfl
    rw [e] at hp
    exact ⟨_, _, hc1, pJ2_size a1 ⟨fun _ => hp h _ _ hR, fun z => absurd (by rw [hl]; decide) z⟩⟩
  | succ d ih =>
    intro h s ss qs mc ms hl hR hw hmc hms hp
    obtain ⟨a1, a2, a3, a4, a5, a6⟩ := hw
    obtain ⟨fs1, hc1⟩ := a1.cell
    have hlen := a3.len
    cases ss with
    | nil => simp at hl
    | cons a ss =>
      cases hst : s.sts with
      | nil => rw [hst] at hlen; simp at hlen
      | cons st l =>
        rw [hst] at a3
        have hl' : ss.length = d := by simpa using hl
        have hl6 : ss.length + 1 + qs.length = 4 := a6
        have nd := List.nodup_append.mp a5
        have nc := List.nodup_cons.mp nd.1
        refine ⟨_, _, hc1, pJ2_size a1 ⟨fun z => ?_, fun _ => ⟨_, _, hc1, pJ2_remove (i := 0) a1 (fun y hy => ?_) (by simp) fun x h1 hx hL1 hk1 => ?_⟩⟩⟩
        · rw [show (0 : Int32) = Int32.ofNat 0 from rfl, zi_le (by omega) (by decide)] at z; omega
        · obtain ⟨q, q1, q2⟩ := a3.mem hy
          exact q2.sp.elt (by decide)
        · have hx : x = a := by simpa using hx.symm
          subst hx
          have hL1 : LST gp h1 (ad 1) 11 ss := hL1
          have sp1 : ∀ y ∈ (x :: ss) ++ qs, isSp h1 y := fun y hy => by
            rcases List.mem_append.mp hy with w | w
            · obtain ⟨q, q1, q2⟩ := a3.mem w
              exact q2.sp.kpt hk1 (by decide)
            · exact (a4 y w).kpt hk1 (by decide)
          obtain ⟨fs, f1, f2⟩ := sp1 x (by simp)
          have a2' := a2.kpt hk1 (by decide) (by decide)
          obtain ⟨fs2, hc2⟩ := a2'.cell
          refine ⟨x, rfl, _, _, f1, _, _, hc2, 1, 20, mc - 1, ms - 20, by omega, by omega, pJ2_add a2' (Bs.g0 hB (hB.kpt hR.2.1 hk1 (by decide))) ((sp1 x (by simp)).elt (by decide)) (fun y hy => (sp1 y (by simp [hy])).elt (by decide)) (by omega) (by omega) (by omega) fun h2 hL2 hk2 => ?_⟩
          have kk : kp [11, 12, 20] h h2 := (hk1.wk (by simp)).tr (hk2.wk (by simp))
          have hw2 : HW gp ad h2 (s.ws l).sts ss (qs ++ [x]) := by
            refine ⟨hL1.kpt hk2 (by decide) (by decide), hL2, a3.2.imp fun y q _ _ r => (r.kpt hk1 (by decide) (by decide) (by decide)).kpt hk2 (by decide) (by decide) (by decide), fun q hq => ?_, ?_, ?_⟩
            · rcases List.mem_append.mp hq with w | w
              · exact (sp1 q (by simp [w])).kpt hk2 (by decide)
              · rw [List.mem_singleton.mp w]; exact (sp1 x (by simp)).kpt hk2 (by decide)
            · rw [← List.append_assoc]
              refine List.nodup_append.mpr ⟨List.nodup_append.mpr ⟨nc.2, nd.2.1, fun y hy z hz => nd.2.2 y (by simp [hy]) z hz⟩, by simp, fun y hy z hz => ?_⟩
              rw [List.mem_singleton.mp hz]
              rcases List.mem_append.mp hy with w | w
              · exact fun e => nc.1 (by rw [← e]; exact w)
              · exact fun e => nd.2.2 x (by simp) y w e.symm
            · simp; omega
          exact ih h2 (s.ws l) ss (qs ++ [x]) _ _ hl' (hR.strm hB kk hw2.st rfl rfl rfl rfl) hw2 (by omega) (by omega) hp
theorem c_restart {gp ad : Nat → Nat} {hb h : x_H} {F : Nat → Int32} {M : Nat → Nat → Int32} {s : SS} {mc ms : Nat} {post : (Nat → Int32) → (Nat → Nat → Int32) → x_H → Prop} (hB : Bs gp hb) (hR : RC gp ad hb F M h s) (hmc : 4 ≤ mc) (hms : 80 ≤ ms) (hp : ∀ F' M' h', RC gp ad hb F' M' h' (SS.restart s) → post F' M' h') : wX1_restart post gp ad F M h mc ms := by
  obtain ⟨ss, qs, hw⟩ := hR.2.2.2.1
  have hw : HW gp ad h s.sts ss qs := hw
  have h6 := hw.2.2.2.2.2
  refine ⟨ss.length + 1, c_restart_loop hB ss.length h s ss qs mc ms rfl hR hw (by omega) (by omega) fun h1 m1 m2 hr => ?_⟩
  obtain ⟨xs, hL, ha⟩ := hr.2.2.2.2.2.2.1
  obtain ⟨fs1, hc1⟩ := hL.cell
  refine ⟨_, _, hc1, pJ2_clear hL fun h2 hL2 hk2 => ?_⟩
  have hr2 : RC gp ad hb F M h2 ((s.ws []).wc []) := hr.tab hB hk2 ⟨[], hL2, trivial⟩ rfl rfl rfl rfl
  have hr3 := ((((((((((((hr2.set 7 102 24).set 23 7 0).set 22 8 0).set 31 15 1).set 32 16 (-1)).set 34 202 0).set 47 18 0).set 48 19 0).set 49 21 0).set 50 22 100).set 51 23 40).set 52 24 64).set 53 26 0
  have e : ((((s.ws []).wc []).p 7 24).p 23 0).p 22 0 = ((((s.ws []).wc []).p 7 24).p 22 0).p 23 0 := Prod.ext (upd_comm _ (by decide) _ _) rfl
  rw [e] at hr3
  refine c_head hr3 (by show (0 : Int32) ≤ 0; decide) (by show (0 : Int32) ≤ 1196; decide) fun G2 N2 hr k2 => c_say hr ?_ ?_ fun G3 N3 hr k3 => c_say hr ?_ ?_ fun G4 N4 hr k4 => hp _ _ _ hr
  · show (0 : Int32) ≤ 0 + 1 + 1 + 1 + 1; decide
  · show (0 : Int32) + 1 + 1 + 1 + 1 < 1200; decide
  · show (0 : Int32) ≤ 0 + 1 + 1 + 1 + 1 + 1; decide
  · show (0 : Int32) + 1 + 1 + 1 + 1 + 1 < 1200; decide
theorem c_out {gp ad : Nat → Nat} {hb h : x_H} {F : Nat → Int32} {M : Nat → Nat → Int32} {s : SS} {k : Int32} {mc ms : Nat} {post : Int32 → (Nat → Int32) → (Nat → Nat → Int32) → x_H → Prop} {postX : String → (Nat → Int32) → (Nat → Nat → Int32) → x_H → Prop} (hR : RC gp ad hb F M h s) {c : Nat} (h53 : s.g 53 = Int32.ofNat c) (hc : c ≤ 1200) (hmc : 1 ≤ mc) (hms : 6 ≤ ms)
    (h0 : 0 ≤ k → k ≤ s.g 53 - 1 → post (s.a 54 k.toNatClampNeg) F M h) (h1 : (k < 0 ∨ s.g 53 - 1 < k) → postX "java/util/NoSuchElementException" F M h) : wX1_out post postX ad k F M h mc ms := by
  have c0 := zb0 (c := c) (by omega)
  have c1 := zb1 (c := c) (m := 1200) hc (by decide)
  unfold wX1_out
  rw [hR.f 53 26]
  refine c_outside (fun a b => ⟨fun _ => ⟨1, 6, mc - 1, ms - 6, by omega, by omega, fun z => absurd z (by decide), fun _ => ⟨zi_in' a ?_ (by decide), ?_⟩⟩, fun z => absurd rfl z⟩) (fun co => ⟨fun z => absurd z (by decide), fun _ => ⟨1, 6, mc - 1, ms - 6, by omega, by omega, fun _ => ⟨by omega, by omega, h1 co⟩, fun z => absurd rfl z⟩⟩)
  · rw [h53] at b
    show k < Int32.ofNat 1200
    have : Int32.ofNat 1200 = 1200 := rfl
    lia
  · rw [hR.1.2.2.2]; exact h0 a b
theorem c_take {gp ad : Nat → Nat} {hb h : x_H} {F : Nat → Int32} {M : Nat → Nat → Int32} {s : SS} {n : Int32} {post : (Nat → Int32) → (Nat → Nat → Int32) → x_H → Prop} (hR : RC gp ad hb F M h s) {c : Nat} (h53 : s.g 53 = Int32.ofNat c) (hc : c ≤ 1200) (hp : ∀ F' M', RC gp ad hb F' M' h (SS.take n s) → post F' M' h) : wX1_take post ad n F M h := by
  have c0 := zb0 (c := c) (by omega)
  have f26 : F 26 = s.g 53 := hR.f 53 26
  have go : ∀ g : Nat, g ≤ c → Int32.ofNat g = (if n < 1 then 0 else if s.g 53 < n then s.g 53 else n) → wX1_take_b17 post ad n F M h (Int32.ofNat g) := by
    intro g hg eg
    have et : SS.take n s = (s.q 54 (fun k => if k < c - g then s.a 54 (k + g) else s.a 54 k)).p 53 (Int32.ofNat (c - g)) := by
      unfold SS.take
      dsimp only
      rw [← eg, h53, zi_sub hg, zi_nat (show c - g < 2147483648 by omega), zi_nat (show g < 2147483648 by omega)]
    rw [et] at hp
    have loop : ∀ (d k : Nat) (N1 : Nat → Nat → Int32), k + d = c → g ≤ k → (∀ j, j ≠ 25 → N1 j = M j) → (∀ j, N1 25 j &&& 255 = if j < k - g then s.a 54 (j + g) else s.a 54 j) → wX1_take_b20 post ad n (d + 1) F N1 h (Int32.ofNat g) (Int32.ofNat k) := by
      intro d
      induction d with
      | zero =>
        intro k N1 hk hgk hN h54
        refine ⟨fun _ => ?_, fun z => absurd ?_ z⟩
        · unfold wX1_take_b48
          rw [f26, h53, zi_sub hg]
          have e54 : va_up M 25 (N1 25) = N1 := by
            funext j
            by_cases q : j = 25
            · subst q; simp [va_up]
            · simp [va_up, q]; exact (hN j q).symm
          have hr := (hR.1.ou (N1 25) (fun j => if j < k - g then s.a 54 (j + g) else s.a 54 j) h54).set 53 26 (Int32.ofNat (c - g))
          rw [e54, show k = c by omega] at hr
          exact hp _ _ ⟨hr, hR.2.cong rfl rfl rfl⟩
        · rw [f26, h53, zi_le (by omega) (by omega)]; omega
      | succ d ih =>
        intro k N1 hk hgk hN h54
        have ekg : Int32.ofNat k - Int32.ofNat g = Int32.ofNat (k - g) := zi_sub hgk
        refine ⟨fun z => ?_, fun _ => ⟨zi_in (by omega) (by decide), by rw [ekg]; exact zi_in (by omega) (by decide), ?_⟩⟩
        · rw [f26, h53, zi_le (by omega) (by omega)] at z; omega
        rw [ekg, zi_nat (by omega), zi_nat (by omega), zi_succ]
        refine ih (k + 1) _ (by omega) (by omega) (fun j hj => by simp [va_up, hj]; exact hN j hj) fun j => ?_
        simp only [va_up, if_true]
        simp only [upd]
        by_cases q : j = k - g
        · rw [if_pos q, if_pos (by omega), zi_narb, h54, if_neg (by omega), show j + g = k by omega]
        · rw [if_neg q, h54]
          by_cases q2 : j < k - g
          · rw [if_pos q2, if_pos (by omega)]
          · rw [if_neg q2, if_neg (by omega)]
    exact ⟨c - g + 1, loop (c - g) g M (by omega) (Nat.le_refl _) (fun _ _ => rfl) fun j => by rw [if_neg (by omega)]; exact hR.1.2.2.2 j⟩
  unfold wX1_take
  rw [f26]
  refine ⟨fun z => ?_, fun z => ?_⟩
  · by_cases w : s.g 53 < n
    · rw [if_pos w, h53]
      refine go c (Nat.le_refl _) ?_
      rw [if_neg (by lia), if_pos w, h53]
    · rw [if_neg w]
      obtain ⟨g, hg, eg⟩ := zi_nn (m := c) (x := n) (by lia) (by omega) (by rw [← h53]; lia)
      have q := go g hg (by rw [if_neg (by lia), if_neg w, ← eg])
      rw [← eg] at q
      exact q
  · exact go 0 (Nat.zero_le _) (by rw [if_pos (by lia)]; rfl)
theorem c_about {gp ad : Nat → Nat} {hb h : x_H} {F : Nat → Int32} {M : Nat → Nat → Int32} {s : SS} {what : Int32} {post : Int32 → Prop} (hR : RC gp ad hb F M h s) (hp : post (s.about what)) : wX1_about post ad what F M h := by
  obtain ⟨ss, qs, a1, a2, a3, -⟩ := hR.2.2.2.1
  obtain ⟨xs, hL, ha⟩ := hR.2.2.2.2.2.2.1
  obtain ⟨fs1, hc1⟩ := a1.cell
  obtain ⟨fs2, hc2⟩ := hL.cell
  unfold SS.about at hp
  unfold wX1_about
  rw [hR.f 47 18, hR.f 50 22, hR.f 52 24, hR.f 7 102, hR.f 34 202]
  refine ⟨fun e => ?_, fun e => ⟨_, _, hc1, pJ2_size a1 ?_⟩, fun e => ?_, fun e => ?_, fun e => ?_, fun e => ⟨_, _, hc2, pJ2_size hL ?_⟩, fun e => c_taken ⟨xs, hL, ha⟩ ?_, fun e => ?_, fun e0 e1 e2 e3 e4 e5 e6 e7 => ?_⟩
  · rw [if_pos e] at hp; exact hp
  · rw [if_neg (by rw [e]; decide), if_pos e] at hp
    rw [a3.len]; exact hp
  · rw [if_neg (by rw [e]; decide), if_neg (by rw [e]; decide), if_pos e] at hp; exact hp
  · rw [if_neg (by rw [e]; decide), if_neg (by rw [e]; decide), if_neg (by rw [e]; decide), if_pos e] at hp; exact hp
  · rw [if_neg (by rw [e]; decide), if_neg (by rw [e]; decide), if_neg (by rw [e]; decide), if_neg (by rw [e]; decide), if_pos e] at hp; exact hp
  · rw [if_neg (by rw [e]; decide), if_neg (by rw [e]; decide), if_neg (by rw [e]; decide), if_neg (by rw [e]; decide), if_neg (by rw [e]; decide), if_pos e] at hp
    rw [ha.len]; exact hp
  · rw [if_neg (by rw [e]; decide), if_neg (by rw [e]; decide), if_neg (by rw [e]; decide), if_neg (by rw [e]; decide), if_neg (by rw [e]; decide), if_neg (by rw [e]; decide), if_pos e] at hp; exact hp
  · rw [if_neg (by rw [e]; decide), if_neg (by rw [e]; decide), if_neg (by rw [e]; decide), if_neg (by rw [e]; decide), if_neg (by rw [e]; decide), if_neg (by rw [e]; decide), if_neg (by rw [e]; decide), if_pos e] at hp; exact hp
  · rw [if_neg e0, if_neg e1, if_neg e2, if_neg e3, if_neg e4, if_neg e5, if_neg e6, if_neg e7] at hp; exact hp
theorem c_stream {gp ad : Nat → Nat} {hb h : x_H} {F : Nat → Int32} {M : Nat → Nat → Int32} {s : SS} {n what : Int32} {mc ms : Nat} {post : Int32 → (Nat → Int32) → (Nat → Nat → Int32) → x_H → Prop} {postX : String → (Nat → Int32) → (Nat → Nat → Int32) → x_H → Prop} (hR : RC gp ad hb F M h s) (hI : Inv s) (hmc : 1 ≤ mc) (hms : 6 ≤ ms) (h0 : ∀ v, s.stream n what = some v → post v F M h) (h1 : s.stream n what = none → postX "java/util/NoSuchElementException" F M h) : wX1_stream post postX ad n what F M h mc ms := by
  obtain ⟨ss, qs, hw⟩ := hR.2.2.2.1
  have hw : HW gp ad h s.sts ss qs := hw
  have no : s.stream n what = none → ∀ x, wX1_stream_b23 post postX ad n what F M h mc ms x := fun q x => ⟨1, 6, mc - 1, ms - 6, by omega, by omega, fun _ => ⟨by omega, by omega, h1 q⟩, fun z => absurd rfl z⟩
  refine c_known hw hI.sts (fun hf => ⟨fun _ => no ?_ _, fun a q => (by cases q)⟩) (fun a st hf ha hst => ⟨fun q => (by cases q), fun a' q => ?_⟩)
  · have hf : s.find n = none := hf
    unfold SS.stream; rw [hf]
  · cases q
    have hf : s.find n = some st := hf
    obtain ⟨hs, hn⟩ := find_some hf
    obtain ⟨b, ma, pa, msx, a1, -⟩ := id hst
    have es : s.stream n what = if what < 0 ∨ 3 < what then none else if what = 0 then some st.win else if what = 1 then some st.left else if what = 2 then some st.cnt else some st.closed := by unfold SS.stream; rw [hf]
    rw [es] at h0 no
    refine c_outside (fun c0 c1 => ⟨fun _ => ⟨1, 6, mc - 1, ms - 6, by omega, by omega, fun z => absurd z (by decide), fun _ => ?_⟩, fun z => absurd rfl z⟩) (fun co => ⟨fun z => absurd z (by decide), fun _ => no (if_pos co) _⟩)
    rw [if_neg (fun q => by rcases q with q | q <;> lia)] at h0
    refine ⟨fun e => ⟨a, rfl, _, ⟨_, _, a1, rfl⟩, ?_⟩, fun e => ⟨a, rfl, _, ⟨_, _, a1, rfl⟩, ?_⟩, fun e => ⟨a, rfl, _, ⟨_, _, a1, rfl⟩, ?_⟩, fun e e1 e2 => ⟨a, rfl, _, ⟨_, _, a1, rfl⟩, fun e3 => ?_, fun e3 => ?_⟩⟩
    · rw [if_pos e] at h0; exact h0 _ rfl
    · rw [if_neg (by rw [e]; decide), if_pos e] at h0; exact h0 _ rfl
    · rw [if_neg (by rw [e]; decide), if_neg (by rw [e]; decide), if_pos e] at h0; exact h0 _ rfl
    · rw [if_neg e, if_neg e1, if_neg e2] at h0
      have := h0 _ rfl
      rw [e3] at this; exact this
    · rw [if_neg e, if_neg e1, if_neg e2] at h0
      have := h0 _ rfl
      rw [(hI.sts.closed st hs).resolve_left e3] at this; exact this
theorem entI_ok {s : SS} (hI : Inv s) {k : Int32} {e : En} (h : s.entI k = some e) : okE e := by
  unfold SS.entI at h
  split at h
  · exact ent_ok hI h
  · cases h
theorem c_entry {gp ad : Nat → Nat} {hb h : x_H} {F : Nat → Int32} {M : Nat → Nat → Int32} {s : SS} {k part j : Int32} {mc ms : Nat} {post : Int32 → (Nat → Int32) → (Nat → Nat → Int32) → x_H → Prop} {postX : String → (Nat → Int32) → (Nat → Nat → Int32) → x_H → Prop} (hR : RC gp ad hb F M h s) (hI : Inv s) (hmc : 2 ≤ mc) (hms : 12 ≤ ms) (h0 : ∀ v, s.entry k part j = some v → post v F M h) (h1 : s.entry k part j = none → postX "java/util/NoSuchElementException" F M h) : wX1_entry post postX gp ad k part j F M h mc ms := by
  have ee0 : s.entry k part j = match s.entI k with
    | none => none
    | some e => if part < 0 ∨ 1 < part then none else if j < 0 ∨ Int32.ofNat (if part = 0 then e.1 else e.2).length - 1 < j then none else some ((if part = 0 then e.1 else e.2).getD j.toNatClampNeg 0) := rfl
  have no : s.entry k part j = none → ∀ x, wX1_entry_b28 post postX gp ad k part j F M h mc ms x := fun q x => ⟨1, 6, mc - 1, ms - 6, by omega, by omega, fun _ => ⟨by omega, by omega, h1 q⟩, fun z => absurd rfl z⟩
  refine c_at hR hI (fun e => ⟨fun _ => no ?_ _, fun a q => (by cases q)⟩) fun a e he hen => ⟨fun q => (by cases q), fun a' q => ?_⟩
  · rw [ee0, e]
  · cases q
    have hok := entI_ok hI he
    have ee : s.entry k part j = if part < 0 ∨ 1 < part then none else if j < 0 ∨ Int32.ofNat (if part = 0 then e.1 else e.2).length - 1 < j then none else some ((if part = 0 then e.1 else e.2).getD j.toNatClampNeg 0) := by
      rw [ee0, he]
    rw [ee] at h0 h1 no
    obtain ⟨cf, ce⟩ := hen.cell
    obtain ⟨na, va, c1, c2, c3⟩ := id hen
    refine c_outside (fun d0 d1 => ⟨fun _ => ⟨1, 6, mc - 1, ms - 6, by omega, by omega, fun z => absurd z (by decide), fun _ => ?_⟩, fun z => absurd rfl z⟩) (fun co => ⟨fun z => absurd z (by decide), fun _ => no (if_pos co) _⟩)
    rw [if_neg (fun q => by rcases q with q | q <;> lia)] at h0 h1
    -- the text
    have b49 : ∀ (q : Nat) (cs : List Int32), isStr h q cs → okS cs → (if part = 0 then e.1 else e.2) = cs → wX1_entry_b49 post postX gp ad k part j F M h (mc - 1) (ms - 6) (some q) := by
      intro q cs hs ho ecs
      rw [ecs] at h0 h1
      obtain ⟨t, fs, hc⟩ := hs.cell
      have hl := hs.len
      refine ⟨q, rfl, _, _, hc, pJ9_length hs (c_outside (fun y0 y1 => ⟨fun _ => ⟨0, 0, mc - 1, ms - 6, by omega, by omega, fun z => absurd z (by decide), fun _ => ⟨q, rfl, _, _, hc, ?_⟩⟩, fun z => absurd rfl z⟩) fun co => ⟨fun z => absurd z (by decide), fun _ => ⟨1, 6, 0, 0, by omega, by omega, fun _ => ⟨by omega, by omega, h1 (if_pos co)⟩, fun z => absurd rfl z⟩⟩)⟩
      rw [if_neg (fun q => by rcases q with q | q <;> lia)] at h0
      have hj : ∃ x, x < cs.length ∧ j = Int32.ofNat x := by
        have z1 := zb1 (c := cs.length) (m := 1000) hl (by decide)
        have z0 := zb0 (c := cs.length) (by omega)
        have lt : j < Int32.ofNat cs.length := by lia
        obtain ⟨x, hx, ex⟩ := zi_of j y0
        rw [ex, zi_lt hx (by omega)] at lt
        exact ⟨x, lt, ex⟩
      obtain ⟨x, hx, ex⟩ := hj
      obtain ⟨g1, g2, -⟩ := ho.get hx
      rw [ex, zi_nat (by omega)] at h0
      rw [ex]
      exact pJ9_charAt hs hx g1 g2 (h0 _ rfl)
    exact ⟨fun q => ⟨a, rfl, _, _, ce, some na, ⟨_, _, c1, rfl⟩, b49 na e.1 c2 hok.n (if_pos q)⟩, fun q => ⟨a, rfl, _, _, ce, some va, ⟨_, _, c1, rfl⟩, b49 va e.2 c3 hok.v (if_neg q)⟩⟩
