set_option maxRecDepth 100000
/-! PURE PART 43: the component: a request -/
theorem RC.strm {gp ad : Nat → Nat} {hb h h' : x_H} {F : Nat → Int32} {M : Nat → Nat → Int32} {s s' : SS} (hB : Bs gp hb) (hR : RC gp ad hb F M h s) (hk : kp [11, 12, 20] h h') (hc : HSt gp ad h' s'.sts) (hg : s'.g = s.g) (ha : s'.a = s.a) (hp : s'.pages = s.pages) (hs : s'.came = s.came) : RC gp ad hb F M h' s' := by
  obtain ⟨hF, hb0, hpg, hst, hfl, hfx, hcm, hsb⟩ := hR
  refine ⟨hF.cong hg ha, hB.kpt hb0 hk (by decide), ?_, hc, hfl.elim fun fs h => ⟨fs, h.kpt hk (by decide)⟩, hfx.kpt hk (by decide), ?_, hsb.kpt hk (by decide)⟩
  · rw [hp]; exact hpg.kpt hk (by decide)
  · rw [hs]; exact hcm.kpt hk (by decide)
theorem len9 {α : Type} : ∀ (l : List α), l.length = 9 → ∃ v0 v1 v2 v3 v4 v5 v6 v7 v8, l = [v0, v1, v2, v3, v4, v5, v6, v7, v8]
  | [a, b, c, d, e, f, g, h, i], _ => ⟨a, b, c, d, e, f, g, h, i, rfl⟩
theorem c_begin {h : x_H} {a : Nat} {v0 v1 v2 v3 v4 v5 v6 v7 v8 : Value} {p1 p2 : Int32} {post : Option Nat → x_H → Prop} (hc : h a = some (20, .inr (4, [v0, v1, v2, v3, v4, v5, v6, v7, v8]))) (hp : post (some a) (x_hs h a 20 (.inr (4, [.int p1, .int p2, .int 0, .int (-1), .int 0, v5, .int 0, v7, v8])))) : wX5_begin post a p1 p2 h := by
  refine ⟨20, _, hc, by decide, by show (0 : Nat) < 9; decide, fun h1 e1 => ?_⟩
  have c1 := (congrFun e1 a).trans (x_hs_self _ _ _ _)
  refine ⟨20, _, c1, by decide, by show (1 : Nat) < 9; decide, fun h2 e2 => ?_⟩
  rw [e1, x_hs_hs] at e2
  have c2 := (congrFun e2 a).trans (x_hs_self _ _ _ _)
  refine ⟨20, _, c2, by decide, by show (2 : Nat) < 9; decide, fun h3 e3 => ?_⟩
  rw [e2, x_hs_hs] at e3
  have c3 := (congrFun e3 a).trans (x_hs_self _ _ _ _)
  refine ⟨20, _, c3, by decide, by show (3 : Nat) < 9; decide, fun h4 e4 => ?_⟩
  rw [e3, x_hs_hs] at e4
  have c4 := (congrFun e4 a).trans (x_hs_self _ _ _ _)
  refine ⟨20, _, c4, by decide, by show (4 : Nat) < 9; decide, fun h5 e5 => ?_⟩
  rw [e4, x_hs_hs] at e5
  have c5 := (congrFun e5 a).trans (x_hs_self _ _ _ _)
  refine ⟨20, _, c5, by decide, by show (6 : Nat) < 9; decide, fun h6 e6 => ?_⟩
  rw [e5, x_hs_hs] at e6
  rw [e6]; exact hp
theorem isSp.other {h : x_H} {a a' : Nat} {e : x_E} (hq : isSp h a') (hne : a' ≠ a) : isSp (x_hs h a 20 e) a' := by
  obtain ⟨fs, f1, f2⟩ := hq
  exact ⟨fs, by rw [x_hs_ne hne]; exact f1, f2⟩
theorem c_req_take {gp ad : Nat → Nat} {hb h : x_H} {F : Nat → Int32} {M : Nat → Nat → Int32} {s : SS} {ma pa : Nat} {m path : List Int32} {len : Int32} {mc ms : Nat} {post : (Nat → Int32) → (Nat → Nat → Int32) → x_H → Prop} {postX : String → (Nat → Int32) → (Nat → Nat → Int32) → x_H → Prop} (hB : Bs gp hb) (hR : RC gp ad hb F M h s) (hI : Inv s) (hl : s.sts.length < 4) (hn0 : 0 < s.g 27) (hf : s.find (s.g 27) = none) (hm : isStr h ma m) (hpa : isStr h pa path) (h0 : 0 ≤ s.g 53) (h1 : s.g 53 ≤ 1190) (hmc : 10 ≤ mc) (hms : 100 ≤ ms)
    (hp : ∀ F' M' h', RC gp ad hb F' M' h' (if s.g 33 = 0 then ((0 : Int32), s.ws (s.sts ++ [newSt (s.g 27) (s.g 51) len (methOf m) path])) else SS.close (s.g 27) (s.ws (s.sts ++ [newSt (s.g 27) (s.g 51) len (methOf m) path]))).2 → PX post postX (if s.g 33 = 0 then ((0 : Int32), s.ws (s.sts ++ [newSt (s.g 27) (s.g 51) len (methOf m) path])) else SS.close (s.g 27) (s.ws (s.sts ++ [newSt (s.g 27) (s.g 51) len (methOf m) path]))).1 F' M' h') :
    wX1_request_b240 post postX gp ad F M h mc ms (some ma) (some pa) len 1 := by
  obtain ⟨ss, qs, a1, a2, a3, a4, a5, a6⟩ := hR.2.2.2.1
  have hlen := a3.len
  obtain ⟨qs', a0, rfl⟩ : ∃ qs' a0, qs = qs' ++ [a0] := by
    rcases List.eq_nil_or_concat qs with rfl | ⟨l, b, rfl⟩
    · simp at a6; omega
    · exact ⟨l, b, by simp⟩
  have nd := List.nodup_append.mp a5
  have nq := List.nodup_append.mp nd.2.1
  have l6 : (qs' ++ [a0]).length = qs'.length + 1 := by simp
  obtain ⟨fs2, hc2⟩ := a2.cell
  refine ⟨0, 0, mc, ms, by omega, by omega, c_wantT (by decide) ⟨_, _, hc2, pJ2_size a2 ⟨_, _, hc2, ?_⟩⟩⟩
  rw [show Int32.ofNat (qs' ++ [a0]).length - 1 = Int32.ofNat ((qs' ++ [a0]).length - 1) from zi_sub (a := (qs' ++ [a0]).length) (b := 1) (by omega)]
  refine pJ2_remove a2 (fun y hy => (a4 y hy).elt (by decide)) (by omega) fun x h1' hx hL1 hk1 => ?_
  rw [List.eraseIdx_length_sub_one, List.dropLast_concat] at hL1
  have hx : x = a0 := by
    rw [l6, Nat.add_sub_cancel, List.getElem?_concat_length] at hx
    exact (Option.some.inj hx).symm
  subst hx
  obtain ⟨fs, f1, f2, b, f3⟩ := (a4 x (by simp)).kpt hk1 (by decide)
  obtain ⟨v0, v1, v2, v3, v4, v5, v6, v7, v8, rfl⟩ := len9 fs f2
  have f3 : v5 = .int b := Option.some.inj f3
  subst f3
  refine ⟨x, rfl, _, _, f1, _, _, f1, c_begin f1 ?_⟩
  generalize eh2 : x_hs h1' x 20 _ = h2
  have k2 : kp [20] h1' h2 := by rw [← eh2]; exact kp.set f1 (by simp)
  have sp1 : ∀ y ∈ ss ++ (qs' ++ [x]), isSp h1' y := fun y hy => by
    rcases List.mem_append.mp hy with w | w
    · obtain ⟨q, q1, q2⟩ := a3.mem w
      exact q2.sp.kpt hk1 (by decide)
    · exact (a4 y w).kpt hk1 (by decide)
  have c2 := (congrFun eh2.symm x).trans (x_hs_self _ _ _ _)
  have sp2 : ∀ y ∈ ss ++ (qs' ++ [x]), isSp h2 y := fun y hy => by
    by_cases e : y = x
    · subst e
      exact ⟨_, c2, rfl, b, rfl⟩
    · rw [← eh2]; exact (sp1 y hy).other e
  have hL2 := (a1.kpt hk1 (by decide) (by decide)).kpt k2 (by decide) (by decide)
  obtain ⟨fs3, hc3⟩ := hL2.cell
  have g0 := Bs.g0 hB (hB.kpt (hB.kpt hR.2.1 hk1 (by decide)) k2 (by decide))
  refine ⟨x, rfl, _, _, hc3, 1, 20, mc - 1, ms - 20, by omega, by omega, pJ2_add hL2 g0 ((sp2 x (by simp)).elt (by decide)) (fun y hy => (sp2 y (by simp [hy])).elt (by decide)) (by omega) (by omega) (by omega) fun h3 hL3 hk3 => ?_⟩
  have c3 := hk3 _ _ _ (by decide) c2
  refine ⟨20, _, c3, by decide, by show (3 : Nat) < 9; decide, fun h4 e4 => ?_⟩
  have c4 := (congrFun e4 x).trans (x_hs_self _ _ _ _)
  refine ⟨20, _, c4, by decide, by show (7 : Nat) < 9; decide, fun h5 e5 => ?_⟩
  rw [e4, x_hs_hs] at e5
  have c5 := (congrFun e5 x).trans (x_hs_self _ _ _ _)
  refine ⟨20, _, c5, by decide, by show (8 : Nat) < 9; decide, fun h6 e6 => ?_⟩
  rw [e5, x_hs_hs] at e6
  have c6 := (congrFun e6 x).trans (x_hs_self _ _ _ _)
  have k6 : kp [20] h3 h6 := by rw [e6]; exact kp.set c3 (by simp)
  have kk : kp [11, 12, 20] h h6 := ((hk1.wk (by simp)).tr (k2.wk (by simp))).tr ((hk3.wk (by simp)).tr (k6.wk (by simp)))
  have hnew : isSt h6 x (newSt (s.g 27) (s.g 51) len (methOf m) path) := by
    refine ⟨b, ma, pa, m, ?_, fun w => absurd rfl w, hm.kpt kk (by decide) (by decide), rfl, hpa.kpt kk (by decide) (by decide)⟩
    rw [c6, hR.f 27 11, hR.f 51 23]; rfl
  have oth : ∀ y st, y ≠ x → isSt h y st → isSt h6 y st := fun y st hy hst => by
    have q1 := hst.kpt hk1 (by decide) (by decide) (by decide)
    have q2 : isSt h2 y st := by rw [← eh2]; exact q1.other hy f1
    have q3 := q2.kpt hk3 (by decide) (by decide) (by decide)
    rw [e6]; exact q3.other hy c3
  have hw6 : HW gp ad h6 (s.sts ++ [newSt (s.g 27) (s.g 51) len (methOf m) path]) (ss ++ [x]) qs' := by
    refine ⟨hL3.kpt k6 (by decide) (by decide), ((hL1.kpt k2 (by decide) (by decide)).kpt hk3 (by decide) (by decide)).kpt k6 (by decide) (by decide), All2.append (a3.imp fun y st hy _ r => oth y st (fun w => nd.2.2 y hy x (by simp) w) r) ⟨hnew, trivial⟩, fun q hq => ?_, ?_, ?_⟩
    · have hne : q ≠ x := fun w => nq.2.2 q hq x (by simp) w
      have q2 := (sp2 q (by simp [hq])).kpt hk3 (by decide)
      rw [e6]; exact q2.other hne
    · rw [List.append_assoc]
      refine List.nodup_append.mpr ⟨nd.1, List.nodup_append.mpr ⟨by simp, nq.1, fun y hy z hz => ?_⟩, fun y hy z hz => nd.2.2 y hy z (by simp at hz ⊢; rcases hz with w | w <;> simp [w])⟩
      rw [List.mem_singleton.mp hy]
      exact fun w => nq.2.2 z hz x (by simp) w.symm
    · simp at a6 ⊢; omega
  have hR6 : RC gp ad hb F M h6 (s.ws (s.sts ++ [newSt (s.g 27) (s.g 51) len (methOf m) path])) := hR.strm hB kk hw6.st rfl rfl rfl rfl
  have hnone : ∀ q ∈ s.sts, q.num ≠ s.g 27 := find_none hf
  have hi2 : InvS (s.sts ++ [newSt (s.g 27) (s.g 51) len (methOf m) path]) := hI.sts.app hl ⟨hn0, (hI.r 27).2⟩ hnone ⟨by show (0 : Int32) ≤ 0; decide, by show (0 : Int32) ≤ 60; decide⟩ (Or.inl rfl) (methOf_ne m).2
  rw [hR.f 33 17]
  refine ⟨fun w => ?_, fun w => ?_⟩
  · rw [if_pos w] at hp
    exact (hp _ _ _ hR6).ok
  · rw [if_neg w] at hp
    exact ⟨mc - 1, ms - 20, 0, 0, by omega, by omega, c_close hB hR6 hw6 (ok_ws hI hi2).inv (by simp) hnew (find_app hnone) h0 h1 (by omega) (by omega) hp⟩
theorem c_request {gp ad : Nat → Nat} {hb h : x_H} {F : Nat → Int32} {M : Nat → Nat → Int32} {s : SS} {fs : List En} {mc ms : Nat} {post : (Nat → Int32) → (Nat → Nat → Int32) → x_H → Prop} {postX : String → (Nat → Int32) → (Nat → Nat → Int32) → x_H → Prop} (hB : Bs gp hb) (hR : RC gp ad hb F M h s) (hI : Inv s) (hfl : HEn gp ad 5 13 h fs) (hfs : ∀ e ∈ fs, okE e) (hn0 : 0 < s.g 27) (hf : s.find (s.g 27) = none) (h0 : 0 ≤ s.g 53) (h1 : s.g 53 ≤ 1190) (hmc : 10 ≤ mc) (hms : 100 ≤ ms)
    (hp : ∀ F' M' h', RC gp ad hb F' M' h' (SS.request fs s).2 → PX post postX (SS.request fs s).1 F' M' h') : wX1_request post postX gp ad F M h mc ms := by
  have er : SS.request fs s = if 4 ≤ s.sts.length then (107, s.p 47 (s.g 27)) else match judgeAll fs acc0 with
      | some (some m, some pa, len, _) => (if s.g 33 = 0 then (0, (s.p 47 (s.g 27)).ws ((s.p 47 (s.g 27)).sts ++ [newSt (s.g 27) (s.g 51) len (methOf m) pa])) else SS.close (s.g 27) ((s.p 47 (s.g 27)).ws ((s.p 47 (s.g 27)).sts ++ [newSt (s.g 27) (s.g 51) len (methOf m) pa])))
      | _ => (101, s.p 47 (s.g 27)) := rfl
  have hR1 : RC gp ad hb (upd F 18 (F 11)) M h (s.p 47 (s.g 27)) := by rw [hR.f 27 11]; exact hR.set 47 18 _
  obtain ⟨ss, qs, a1, a2, a3, -⟩ := hR.2.2.2.1
  have hlen := a3.len
  have l4 := hI.sts.len
  obtain ⟨fs1, hc1⟩ := a1.cell
  have s4 : (4 : Int32) ≤ Int32.ofNat ss.length ↔ 4 ≤ s.sts.length := by rw [← hlen]; exact zi_le (a := 4) (by decide) (by omega)
  refine ⟨_, _, hc1, pJ2_size a1 ⟨fun z => ?_, fun z => ?_⟩⟩
  · rw [er, if_pos (s4.mp z)] at hp
    exact ⟨1, 6, 0, 0, by omega, by omega, c_wantF hR1 (by omega) (by omega) fun F' hr h20 => PX.w 107 7 (hp F' M h hr) h20⟩
  · have hlt : ¬ 4 ≤ s.sts.length := fun w => z (s4.mpr w)
    rw [er, if_neg hlt] at hp
    refine ⟨0, 0, mc, ms, by omega, by omega, c_wantT (by decide) ⟨fs.length + 1, ?_⟩⟩
    have bad : (∀ m pa len o, judgeAll fs acc0 ≠ some (some m, some pa, len, o)) → ∀ F', RC gp ad hb F' M h (s.p 47 (s.g 27)) → F' 20 = 1 → postX "java/lang/IllegalArgumentException" F' M h := fun hno F' hr h20 => by
      have : ∀ {α : Type} (x : α) (f : List Int32 → List Int32 → Int32 → Bool → α), (match judgeAll fs acc0 with
        | some (some m, some pa, len, o) => f m pa len o
        | _ => x) = x := by
        intro α x f
        split
        · exact absurd ‹_› (hno _ _ _ _)
        · rfl
      rw [this] at hp
      exact PX.w 101 1 (hp F' M h hr) h20
    refine c_req_loop hB hR1 hfl hfs (by omega) (by omega) fs.length 0 acc0 none none (by omega) (Or.inl ⟨rfl, rfl⟩) (Or.inl ⟨rfl, rfl⟩) (fun acc' y1 y2 hj q1 q2 => ?_) fun hj => ?_
    · obtain ⟨am, ap, len, o⟩ := acc'
      have hj : judgeAll fs acc0 = some (am, ap, len, o) := hj
      have no : (am = none ∨ ap = none) → ∀ x1 x2, wX1_request_b239 post postX gp ad (upd F 18 (F 11)) M h mc ms x1 x2 len := fun hc x1 x2 =>
        ⟨1, 6, 0, 0, by omega, by omega, c_wantF hR1 (by omega) (by omega) (bad fun m pa len' o' w => by rw [hj] at w; cases w; rcases hc with w | w <;> cases w)⟩
      refine ⟨fun e => ?_, fun a' e => ⟨fun e2 => ?_, fun b' e2 => ?_⟩⟩
      · subst e; exact no (Or.inl q1.none) _ _
      · subst e2; exact no (Or.inr q2.none) _ _
      · subst e; subst e2
        obtain ⟨m, w1, w2⟩ := q1.some
        obtain ⟨pa, w3, w4⟩ := q2.some
        have w1 : am = some m := w1
        have w3 : ap = some pa := w3
        subst w1; subst w3
        rw [hj] at hp
        exact c_req_take hB hR1 (hI.set 47 _ (hI.r 27)) (by show s.sts.length < 4; omega) hn0 hf w2 w4 h0 h1 hmc hms hp
    · have hj : judgeAll fs acc0 = none := hj
      exact bad fun m pa len o w => by rw [hj] at w; cases w
