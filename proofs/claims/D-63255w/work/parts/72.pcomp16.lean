set_option maxRecDepth 100000
/-! PURE PART 46: the component: whose turn it is; it pumps -/
theorem c_turn {gp ad : Nat → Nat} {hb h : x_H} {F : Nat → Int32} {M : Nat → Nat → Int32} {s : SS} {ss qs : List Nat} {post : Option Nat → Prop} (hR : RC gp ad hb F M h s) (hw : HW gp ad h s.sts ss qs) (hi : InvS s.sts) (h0 : s.turn = none → post none) (h1 : ∀ a st, s.turn = some st → st ∈ s.sts → can st → a ∈ ss → isSt h a st → post (some a)) : wX1_turn post ad F M h := by
  obtain ⟨hL, -, ha, -⟩ := hw
  have hlen := ha.len
  have l4 := hi.len
  obtain ⟨fs1, hc1⟩ := hL.cell
  have f21 : F 21 = s.g 49 := hR.f 49 21
  have key : ∀ (d i : Nat) (x1 : Option Nat) (f : Option St), i + d = ss.length → ((x1 = none ∧ f = none) ∨ ∃ a q, x1 = some a ∧ f = some q ∧ isSt h a q ∧ q ∈ s.sts ∧ a ∈ ss) →
      (∀ x2, ((x2 = none ∧ (s.sts.drop i).foldl s.pick f = none) ∨ ∃ a q, x2 = some a ∧ (s.sts.drop i).foldl s.pick f = some q ∧ isSt h a q ∧ q ∈ s.sts ∧ a ∈ ss) → post x2) → wX1_turn_b4 post ad F M h (d + 1) x1 (Int32.ofNat i) := by
    intro d
    induction d with
    | zero =>
      intro i x1 f hid hx hp
      rw [List.drop_eq_nil_of_le (by omega)] at hp
      exact ⟨_, _, hc1, pJ2_size hL ⟨fun _ => hp x1 hx, fun z => absurd ((zi_le (by omega) (by omega)).mpr (by omega)) z⟩⟩
    | succ d ih =>
      intro i x1 f hid hx hp
      have hil : i < s.sts.length := by omega
      rw [List.drop_eq_getElem_cons hil, List.foldl_cons] at hp
      refine ⟨_, _, hc1, pJ2_size hL ⟨fun z => ?_, fun _ => ⟨_, _, hc1, pJ2_get hL (by omega) fun a hxa => ?_⟩⟩⟩
      · rw [zi_le (by omega) (by omega)] at z; omega
      obtain ⟨st, hst, hcell⟩ := ha.get hxa
      have hmem : st ∈ s.sts := List.mem_of_getElem? hst
      have hma : a ∈ ss := List.mem_of_getElem? hxa
      rw [List.getElem?_eq_getElem hil] at hst
      rw [Option.some.inj hst] at hp
      obtain ⟨b, ma, pa, ms, a1, a2, -⟩ := id hcell
      have next : ∀ (x2 : Option Nat) (f2 : Option St), ((x2 = none ∧ f2 = none) ∨ ∃ a q, x2 = some a ∧ f2 = some q ∧ isSt h a q ∧ q ∈ s.sts ∧ a ∈ ss) → s.pick f st = f2 → wX1_turn_b115 post (wX1_turn_b4 post ad F M h (d + 1)) ad F M h x2 (Int32.ofNat i) := by
        intro x2 f2 q1 q2
        rw [q2] at hp
        unfold wX1_turn_b115
        rw [zi_succ]
        exact ih (i + 1) x2 f2 (by omega) q1 hp
      have noc : ¬ can st → wX1_turn_b115 post (wX1_turn_b4 post ad F M h (d + 1)) ad F M h x1 (Int32.ofNat i) := fun hc => next x1 f hx (by unfold SS.pick; rw [if_neg hc])
      refine ⟨a, rfl, _, _, a1, _, ⟨_, _, a1, rfl⟩, fun z => noc fun q => q.1 z, fun z => ⟨_, ⟨_, _, a1, rfl⟩, fun w => ?_, fun w => noc fun q => w q.2⟩⟩
      have hc : can st := ⟨z, w⟩
      rcases hx with ⟨rfl, rfl⟩ | ⟨a', q, rfl, rfl, c1, c2, c3⟩
      · refine ⟨fun _ => next (some a) (some st) (Or.inr ⟨a, st, rfl, rfl, hcell, hmem, hma⟩) (by unfold SS.pick; rw [if_pos hc]), fun a' e => (by cases e)⟩
      · refine ⟨fun e => (by cases e), fun a'' e => ?_⟩
        cases e
        have ep : s.pick (some q) st = if s.rank st < s.rank q then some st else some q := by unfold SS.pick; rw [if_pos hc]
        obtain ⟨b', ma', pa', ms', b1, b2, -⟩ := id c1
        have n1 := hi.num st hmem
        have n2 := hi.num q c2
        have keep : ¬ s.rank st < s.rank q → wX1_turn_b115 post (wX1_turn_b4 post ad F M h (d + 1)) ad F M h (some a') (Int32.ofNat i) := fun e => next _ (some q) (Or.inr ⟨a', q, rfl, rfl, c1, c2, c3⟩) (by rw [ep, if_neg e])
        have take : s.rank st < s.rank q → wX1_turn_b113 post (wX1_turn_b4 post ad F M h (d + 1)) ad F M h (Int32.ofNat i) a := fun e => next _ (some st) (Or.inr ⟨a, st, rfl, rfl, hcell, hmem, hma⟩) (by rw [ep, if_pos e])
        have r1 : s.rank st = if s.g 49 < st.num then st.num else st.num + 300 := rfl
        have r2 : s.rank q = if s.g 49 < q.num then q.num else q.num + 300 := rfl
        refine ⟨st.num, ⟨_, _, a1, rfl⟩, fun y => ?_, fun y => ?_⟩
        · rw [f21] at y
          refine ⟨q.num, ⟨_, _, b1, rfl⟩, fun x => ⟨fun _ => ⟨st.num, ⟨_, _, a1, rfl⟩, q.num, ⟨_, _, b1, rfl⟩, fun v => keep ?_, fun v => take ?_⟩, fun v => absurd rfl v⟩, fun x => ⟨fun v => absurd v (by decide), fun _ => ⟨st.num, ⟨_, _, a1, rfl⟩, fun v => keep ?_, fun v => absurd (by rw [f21]; exact y) v⟩⟩⟩
          all_goals
            rw [f21] at x
            rw [r1, r2]
            split <;> split <;> lia
        · rw [f21] at y
          refine ⟨q.num, ⟨_, _, b1, rfl⟩, fun x => ⟨fun v => absurd v (by decide), fun _ => ⟨st.num, ⟨_, _, a1, rfl⟩, fun v => absurd (by rw [← f21]; exact v) y, fun v => take ?_⟩⟩, fun x => ⟨fun _ => ⟨st.num, ⟨_, _, a1, rfl⟩, q.num, ⟨_, _, b1, rfl⟩, fun v => keep ?_, fun v => take ?_⟩, fun v => absurd rfl v⟩⟩
          all_goals
            rw [f21] at x
            rw [r1, r2]
            split <;> split <;> lia
  refine ⟨ss.length + 1, key ss.length 0 none none (by omega) (Or.inl ⟨rfl, rfl⟩) fun x2 hx => ?_⟩
  rw [List.drop_zero] at hx
  have ht := turn_ok s
  rcases hx with ⟨rfl, e⟩ | ⟨a, q, rfl, e, c1, c2, c3⟩
  · exact h0 e
  · have e : s.turn = some q := e
    rw [e] at ht
    exact h1 a q e c2 ht.2.1 c3 c1
theorem c_sayN {gp ad : Nat → Nat} {hb h : x_H} {a tot mc ms : Nat} {b : Int32} {vs : Nat → Value} {post : (Nat → Int32) → (Nat → Nat → Int32) → x_H → Prop} {K5 : (Nat → Int32) → (Nat → Nat → Int32) → x_H → Nat → Nat → Option Nat → Prop} (hcell : h a = some (20, .inr (4, [vs 0, vs 1, vs 2, vs 3, vs 4, .int b, vs 6, vs 7, vs 8]))) (htot : tot ≤ 100) : ∀ (d k : Nat) (F : Nat → Int32) (M : Nat → Nat → Int32) (s : SS), k + d = tot → RC gp ad hb F M h s → 0 ≤ s.g 53 → s.g 53 ≤ 1190 - Int32.ofNat d → (∀ F' M', RC gp ad hb F' M' h (SS.sayN d b s) → wX1_pump_b123 post K5 gp ad F' M' h mc ms a) → wX1_pump_b104 post K5 gp ad (d + 1) F M h mc ms a (Int32.ofNat tot) (Int32.ofNat k) := by
  intro d
  induction d with
  | zero =>
    intro k F M s hk hR h0 h1 hp
    refine ⟨fun _ => hp F M hR, fun z => absurd ((zi_le (by omega) (by omega)).mpr (by omega)) z⟩
  | succ d ih =>
    intro k F M s hk hR h0 h1 hp
    have hd : Int32.ofNat (d + 1) = Int32.ofNat d + 1 := (zi_succ d).symm
    have hd0 : (0 : Int32) ≤ Int32.ofNat d := by rw [show (0 : Int32) = Int32.ofNat 0 from rfl, zi_le (by decide) (by omega)]; omega
    have hd1 : Int32.ofNat d ≤ 100 := by rw [show (100 : Int32) = Int32.ofNat 100 from rfl, zi_le (by omega) (by decide)]; omega
    rw [hd] at h1
    refine ⟨fun z => ?_, fun _ => ⟨b, ⟨_, _, hcell, rfl⟩, ?_⟩⟩
    · rw [zi_le (by omega) (by omega)] at z; omega
    rw [zi_succ]
    refine c_say hR h0 (by lia) fun F1 M1 hr k1 => ih (k + 1) F1 M1 _ (by omega) hr ?_ ?_ fun F' M' hr' => hp F' M' hr'
    all_goals simp only [say_rw, if_true]; lia
theorem c_pump1 {gp ad : Nat → Nat} {hb h : x_H} {F : Nat → Int32} {M : Nat → Nat → Int32} {s : SS} {ss qs : List Nat} {st : St} {a mc ms : Nat} {post : (Nat → Int32) → (Nat → Nat → Int32) → x_H → Prop} {K5 : (Nat → Int32) → (Nat → Nat → Int32) → x_H → Nat → Nat → Option Nat → Prop} (hB : Bs gp hb) (hR : RC gp ad hb F M h s) (hI : Inv s) (hw : HW gp ad h s.sts ss qs) (hs : st ∈ s.sts) (hc : can st) (ha : a ∈ ss) (hst : isSt h a st) (h50 : 0 < s.g 50) (h0 : 0 ≤ s.g 53) (h1 : s.g 53 ≤ 1100) (hmc : s.sts.length ≤ mc) (hms : 20 * s.sts.length ≤ ms)
    (hp : ∀ F' M' h' m1 m2, RC gp ad hb F' M' h' (SS.pump1 st s) → (SS.pump1 st s).sts.length ≤ m1 → 20 * (SS.pump1 st s).sts.length ≤ m2 → wX1_turn (fun r => K5 F' M' h' m1 m2 r) ad F' M' h') : tX1_pump_b5 post K5 gp ad F M h mc ms (some a) := by
  obtain ⟨n1, n2, n3, n4, -⟩ := pumpN_ok hI hs hc h50
  have hl := hI.sts.left st hs
  have e : SS.pump1 st s = (let s2 := SS.sayN (pumpN s st).toNatClampNeg st.b (SS.head (pumpN s st) 0 (if st.left - pumpN s st = 0 then 1 else 0) st.num (((SS.modSt st.num (fun q => (q.set 16 (q.left - pumpN s st)).set 13 (q.win - pumpN s st)) s).p 50 (s.g 50 - pumpN s st)).p 49 st.num)); if st.left - pumpN s st = 0 then SS.over st.num s2 else s2) := rfl
  rw [e] at hp
  have f22 : F 22 = s.g 50 := hR.f 50 22
  have f24 : F 24 = s.g 52 := hR.f 52 24
  obtain ⟨b, ma, pa, msx, a1, a2, a3, a4, a5⟩ := id hst
  have hb' : b = st.b := a2 hc.1
  subst hb'
  refine ⟨fun z => (by cases z), fun a' z => ?_⟩
  cases z
  rw [f22, f24]
  refine ⟨fun z => absurd z (by lia), fun _ => ⟨st.left, ⟨_, _, a1, rfl⟩, st.win, ⟨_, _, a1, rfl⟩, st.left, ⟨_, _, a1, rfl⟩, ?_⟩⟩
  have en : (if (if s.g 52 < s.g 50 then s.g 52 else s.g 50) < (if st.win < st.left then st.win else st.left) then (if s.g 52 < s.g 50 then s.g 52 else s.g 50) else (if st.win < st.left then st.win else st.left)) = pumpN s st := rfl
  rw [en]
  generalize pumpN s st = n at n1 n2 n3 n4 hp ⊢
  obtain ⟨m, hm, em⟩ := zi_nn (m := 60) (x := n) (by lia) (by decide) (by lia)
  have hm0 : (0 : Int32) ≤ n := by lia
  refine ⟨20, _, a1, by decide, by show (4 : Nat) < 9; decide, fun h2 e2 => ?_⟩
  have c2 := (congrFun e2 a).trans (x_hs_self _ _ _ _)
  refine ⟨st.win, ⟨_, _, c2, rfl⟩, 20, _, c2, by decide, by show (1 : Nat) < 9; decide, fun h3 e3 => ?_⟩
  rw [e2, x_hs_hs] at e3
  have c3 := (congrFun e3 a).trans (x_hs_self _ _ _ _)
  have k3 : kp [20] h h3 := by rw [e3]; exact kp.set a1 (by simp)
  have hnew : isSt h3 a ((st.set 16 (st.left - n)).set 13 (st.win - n)) := by
    refine ⟨st.b, ma, pa, msx, ?_, fun _ => by simp [St.rw], a3.kpt k3 (by decide) (by decide), by rw [a4]; simp [St.rw], ?_⟩
    · rw [c3]; simp [St.rw]
    · exact a5.kpt k3 (by decide) (by decide)
  have hm3 := hR.mod hB hw hI.sts ha hst hs rfl (f := fun q => (q.set 16 (q.left - n)).set 13 (q.win - n)) (by rw [← e3]; exact hnew)
  rw [← e3] at hm3
  obtain ⟨m1, m2⟩ := hm3
  have hi1 : InvS (SS.modSt st.num (fun q => (q.set 16 (q.left - n)).set 13 (q.win - n)) s).sts := hI.sts.mod fun q hq e => by
    have : q = st := hI.sts.uniq hq hs e
    subst this
    exact ⟨by simp [St.rw], by simp [St.rw]; lia, by simpa [St.rw] using hI.sts.closed q hq, by simpa [St.rw] using hI.sts.meth q hq⟩
  have hlenm : (SS.modSt st.num (fun q => (q.set 16 (q.left - n)).set 13 (q.win - n)) s).sts.length = s.sts.length := List.length_map _
  have hmemm : ((st.set 16 (st.left - n)).set 13 (st.win - n)) ∈ (SS.modSt st.num (fun q => (q.set 16 (q.left - n)).set 13 (q.win - n)) s).sts := by
    show _ ∈ s.sts.map _
    exact List.mem_map.mpr ⟨st, hs, by rw [if_pos rfl]⟩
  generalize SS.modSt st.num (fun q => (q.set 16 (q.left - n)).set 13 (q.win - n)) s = sm at m1 m2 hi1 hlenm hmemm hp
  refine ⟨st.num, ⟨_, _, c3, rfl⟩, st.left - n, ⟨_, _, c3, rfl⟩, ?_⟩
  have hr := (m1.set 50 22 (s.g 50 - n)).set 49 21 st.num
  have e53 : ((sm.p 50 (s.g 50 - n)).p 49 st.num).g 53 = sm.g 53 := rfl
  have es : ((sm.p 50 (s.g 50 - n)).p 49 st.num).sts = sm.sts := rfl
  have g53 : sm.g 53 = s.g 53 := by
    have q1 := m1.f 53 26
    have q2 := hR.f 53 26
    rw [← q1, q2]
  have b95 : ∀ x : Int32, (x = if st.left - n = 0 then 1 else 0) → wX1_pump_b95 post K5 gp ad (upd (upd F 22 (s.g 50 - n)) 21 st.num) M h3 mc ms a n x n := by
    intro x hx
    refine ⟨st.num, ⟨_, _, c3, rfl⟩, c_head hr (by rw [e53, g53]; exact h0) (by rw [e53, g53]; lia) fun F1 M1 hr1 k1 => ⟨m + 1, ?_⟩⟩
    rw [em]
    refine c_sayN (vs := fun k => [Value.int st.num, .int (st.win - n), .int st.cnt, .int st.len, .int (st.left - n), .int st.b, .int st.closed, .ref ma, .ref pa].getD k .null) c3 (by omega) m 0 F1 M1 _ (by omega) hr1 ?_ ?_ fun F2 M2 hr2 => ?_
    · rw [head_rw.1, if_pos rfl, e53, g53]; lia
    · rw [head_rw.1, if_pos rfl, e53, g53, ← em]; lia
    · have hs2 : (SS.sayN m st.b (SS.head n 0 x st.num ((sm.p 50 (s.g 50 - n)).p 49 st.num))).sts = sm.sts := (sayN_rw _ _ _).2.2.1
      have en : n.toNatClampNeg = m := by rw [em]; exact zi_nat (by omega)
      rw [en, ← hx] at hp
      generalize SS.sayN m st.b (SS.head n 0 x st.num ((sm.p 50 (s.g 50 - n)).p 49 st.num)) = s5 at hs2 hr2 hp
      refine ⟨st.left - n, ⟨_, _, c3, rfl⟩, fun z => ⟨st.num, ⟨_, _, c3, rfl⟩, ?_⟩, fun z => ?_⟩
      · simp only [if_pos z] at hp
        have hlt : (SS.over st.num s5).sts.length < s.sts.length := by
          show (s5.sts.filter (fun q => q.num != st.num)).length < s.sts.length
          rw [hs2, ← hlenm]
          refine List.length_filter_lt_length_iff_exists.mpr ⟨_, hmemm, ?_⟩
          simp [St.rw]
        refine ⟨1, 20, mc - 1, ms - 20, by omega, by omega, c_over hB hr2 (by rw [hs2]; exact hi1) (by omega) (by omega) fun h' hr3 => hp _ _ h' _ _ hr3 (by omega) (by omega)⟩
      · simp only [if_neg z] at hp
        exact hp _ _ h3 mc ms hr2 (by rw [hs2, hlenm]; exact hmc) (by rw [hs2, hlenm]; exact hms)
  refine ⟨fun z => ?_, fun z => ?_⟩
  · exact b95 1 (by rw [if_pos z])
  · exact b95 0 (by rw [if_neg z])
theorem c_pump {gp ad : Nat → Nat} {hb h : x_H} {F : Nat → Int32} {M : Nat → Nat → Int32} {s : SS} {mc ms : Nat} {post : (Nat → Int32) → (Nat → Nat → Int32) → x_H → Prop} (hB : Bs gp hb) (hR : RC gp ad hb F M h s) (hI : Inv s) {c : Nat} (h53 : s.g 53 = Int32.ofNat c) (hc : c ≤ 700) (hmc : 4 ≤ mc) (hms : 80 ≤ ms) (hp : ∀ F' M' h', RC gp ad hb F' M' h' (SS.pump 300 s) → post F' M' h') : wX1_pump post gp ad F M h mc ms := by
  have key : ∀ (e : Nat) (s : SS) (F : Nat → Int32) (M : Nat → Nat → Int32) (h : x_H) (x1 : Option Nat) (c mc ms : Nat), leftN s < e → RC gp ad hb F M h s → Inv s → s.g 53 = Int32.ofNat c → 4 * c + potN s ≤ 4 * 1050 → s.sts.length ≤ mc → 20 * s.sts.length ≤ ms → ((s.turn = none ∧ x1 = none) ∨ ∃ ss qs st a, HW gp ad h s.sts ss qs ∧ s.turn = some st ∧ st ∈ s.sts ∧ can st ∧ a ∈ ss ∧ isSt h a st ∧ x1 = some a) → (∀ F' M' h', RC gp ad hb F' M' h' (SS.pump e s) → post F' M' h') → wX1_pump_b5 post gp ad e F M h mc ms x1 := by
    intro e
    induction e with
    | zero => intro s F M h x1 c mc ms hl; omega
    | succ e ih =>
      intro s F M h x1 c mc ms hl hR hI h53 hbd hmc hms hx hp
      have ee : SS.pump (e + 1) s = match s.turn with
        | none => s
        | some st => if 0 < s.g 50 then SS.pump e (SS.pump1 st s) else s := rfl
      rcases hx with ⟨ht, rfl⟩ | ⟨ss, qs, st, a, hw, ht, hs, hcn, ha, hst, rfl⟩
      · rw [ee, ht] at hp
        exact ⟨fun _ => hp F M h hR, fun a z => (by cases z)⟩
      · rw [ee, ht] at hp
        by_cases c50 : 0 < s.g 50
        · have hp : ∀ F' M' h', RC gp ad hb F' M' h' (SS.pump e (SS.pump1 st s)) → post F' M' h' := by
            have e1 : (if 0 < s.g 50 then SS.pump e (SS.pump1 st s) else s) = SS.pump e (SS.pump1 st s) := if_pos c50
            rw [← e1]; exact hp
          obtain ⟨p1, p2, ⟨k, p3, p4, p5⟩, p6, p7, p8, p9⟩ := pump1_ok hI hs hcn c50
          have hc' : c ≤ 1050 := by omega
          refine c_pump1 hB hR hI hw hs hcn ha hst c50 ?_ ?_ hmc hms fun F' M' h' m1 m2 hr q1 q2 => ?_
          · rw [h53, show (0 : Int32) = Int32.ofNat 0 from rfl, zi_le (by decide) (by omega)]; omega
          · rw [h53, show (1100 : Int32) = Int32.ofNat 1100 from rfl, zi_le (by omega) (by decide)]; omega
          · have h53' : (SS.pump1 st s).g 53 = Int32.ofNat (c + k) := by rw [p4, h53, zi_add]
            obtain ⟨ss', qs', hw'⟩ := hr.2.2.2.1
            have hw' : HW gp ad h' (SS.pump1 st s).sts ss' qs' := hw'
            exact c_turn hr hw' p1.sts (fun ht' => ih _ F' M' h' _ (c + k) _ _ (by omega) hr p1 h53' (by omega) q1 q2 (Or.inl ⟨ht', rfl⟩) hp) (fun a' st' ht' hs' hcn' ha' hst' => ih _ F' M' h' _ (c + k) _ _ (by omega) hr p1 h53' (by omega) q1 q2 (Or.inr ⟨ss', qs', st', a', hw', ht', hs', hcn', ha', hst', rfl⟩) hp)
        · have hp : ∀ F' M' h', RC gp ad hb F' M' h' s → post F' M' h' := by
            have e1 : (if 0 < s.g 50 then SS.pump e (SS.pump1 st s) else s) = s := if_neg c50
            intro F' M' h' hr
            exact hp F' M' h' (by rw [← e1] at hr; exact hr)
          exact ⟨fun z => (by cases z), fun a' z => ⟨fun _ => hp F M h hR, fun z => absurd (by rw [hR.f 50 22]; lia) z⟩⟩
  obtain ⟨ss, qs, hw⟩ := hR.2.2.2.1
  have hw : HW gp ad h s.sts ss qs := hw
  have h1 := leftN_le hI
  have h2 := potN_le hI
  have l4 := hI.sts.len
  exact c_turn hR hw hI.sts (fun ht => ⟨300, key 300 s F M h _ c mc ms (by omega) hR hI h53 (by omega) (by omega) (by omega) (Or.inl ⟨ht, rfl⟩) hp⟩) (fun a st ht hs hcn ha hst => ⟨300, key 300 s F M h _ c mc ms (by omega) hR hI h53 (by omega) (by omega) (by omega) (Or.inr ⟨ss, qs, st, a, hw, ht, hs, hcn, ha, hst, rfl⟩) hp⟩)
