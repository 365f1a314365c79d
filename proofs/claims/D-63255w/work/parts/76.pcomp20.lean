set_option maxRecDepth 100000
/-! PURE PART 50: the component: page -/
theorem kp.new0 {h : x_H} {q t : Nat} {e : x_E} (hq : h q = none) : kp [] h (x_hs h q t e) := fun q' t' e' _ hq' => by
  have hne : q' ≠ q := fun w => by subst w; rw [hq] at hq'; cases hq'
  rw [x_hs_ne hne]; exact hq'
theorem RC.k17 {gp ad : Nat → Nat} {hb h h' : x_H} {F : Nat → Int32} {M : Nat → Nat → Int32} {s : SS} (hB : Bs gp hb) (hR : RC gp ad hb F M h s) (hk : kp [17] h h') : RC gp ad hb F M h' s := by
  obtain ⟨hF, hb0, hpg, hst, hfl, hfx, hcm, hsb⟩ := hR
  exact ⟨hF, hB.kpt hb0 hk (by decide), hpg.kpt hk (by decide), hst.kpt hk (by decide), hfl.elim fun fs h => ⟨fs, h.kpt hk (by decide)⟩, hfx.kpt hk (by decide), hcm.kpt hk (by decide), hsb.kpt hk (by decide)⟩
theorem RC.pg {gp ad : Nat → Nat} {hb h h' : x_H} {F : Nat → Int32} {M : Nat → Nat → Int32} {s : SS} {l : List Pg} (hB : Bs gp hb) (hR : RC gp ad hb F M h s) (hk : kp [10] h h') (hp : HPg gp ad h' l) : RC gp ad hb F M h' (s.wp l) := by
  obtain ⟨hF, hb0, hpg, hst, hfl, hfx, hcm, hsb⟩ := hR
  exact ⟨hF.cong rfl rfl, hB.kpt hb0 hk (by decide), hp, hst.kpt hk (by decide), hfl.elim fun fs h => ⟨fs, h.kpt hk (by decide)⟩, hfx.kpt hk (by decide), hcm.kpt hk (by decide), hsb.kpt hk (by decide)⟩
theorem isPg.elt {h : x_H} {a t : Nat} {q : Pg} (hs : isPg h a q) (ht : t ≠ 2) : elt h t a := by
  obtain ⟨sa, a1, a2⟩ := hs
  exact ⟨2, 6, _, a1, Ne.symm ht, Or.inr (Or.inr rfl)⟩
theorem c_newPg {h : x_H} {q sa : Nat} {path : List Int32} {size c : Int32} {post : x_H → Prop} (hq : h q = none) (hs : isStr h sa path) (hp : ∀ h', isPg h' q (path, size, c) → kp [] h h' → post h') : wX7_init post q sa size c (x_hs h q 2 (.inr (6, [.null, .int 0, .int 0]))) := by
  refine ⟨_, _, x_hs_self _ _ _ _, by decide, by decide, fun h1 e1 => ?_⟩
  rw [x_hs_hs] at e1
  have c1 := (congrFun e1 q).trans (x_hs_self _ _ _ _)
  refine ⟨2, _, c1, by decide, by show (1 : Nat) < 3; decide, fun h2 e2 => ?_⟩
  rw [e1, x_hs_hs] at e2
  have c2 := (congrFun e2 q).trans (x_hs_self _ _ _ _)
  refine ⟨2, _, c2, by decide, by show (2 : Nat) < 3; decide, fun h3 e3 => ?_⟩
  rw [e2, x_hs_hs] at e3
  have c3 := (congrFun e3 q).trans (x_hs_self _ _ _ _)
  have k3 : kp [] h h3 := by rw [e3]; exact kp.new0 hq
  exact hp h3 ⟨sa, c3, hs.kpt k3 (by decide) (by decide)⟩ k3
theorem c_page {gp ad : Nat → Nat} {hb h : x_H} {F : Nat → Int32} {M : Nat → Nat → Int32} {s : SS} {a b size c : Int32} {mc ms : Nat} {post : Int32 → (Nat → Int32) → (Nat → Nat → Int32) → x_H → Prop} {postX : String → (Nat → Int32) → (Nat → Nat → Int32) → x_H → Prop} (hB : Bs gp hb) (hR : RC gp ad hb F M h s) (hI : Inv s) (hmc : 30 ≤ mc) (hms : 1200 ≤ ms)
    (hp0 : (SS.page a b size c s).1 = 0 → ∀ h', RC gp ad hb F M h' (SS.page a b size c s).2.2 → post (SS.page a b size c s).2.1 F M h')
    (hp1 : (SS.page a b size c s).1 = 1 → ∀ h', RC gp ad hb F M h' s → postX "java/lang/IllegalArgumentException" F M h')
    (hp2 : (SS.page a b size c s).1 = 2 → ∀ h', RC gp ad hb F M h' s → postX "java/lang/IllegalStateException" F M h') : wX1_page post postX gp ad a b size c F M h mc ms := by
  unfold SS.page at hp0 hp1 hp2
  have hl8 := hI.pages.1
  have no : ¬ (isText a = true ∧ isText b = true ∧ byteOf b 3 = 0 ∧ (b = 0 ∨ byteOf a 3 ≠ 0) ∧ 0 ≤ size ∧ size ≤ 60 ∧ 0 ≤ c ∧ c ≤ 255) → wX1_page_b58 post postX gp ad a b size c F M h mc ms := fun q => by
    rw [if_neg q] at hp1
    exact ⟨1, 6, 0, 0, by omega, by omega, fun _ => ⟨by omega, by omega, hp1 rfl h hR⟩, fun z => absurd rfl z⟩
  unfold wX1_page
  rw [zi_top, zi_top]
  refine c_isText ?_
  cases ta : isText a with
  | false => exact ⟨fun _ => no fun q => (by rw [ta] at q; exact absurd q.1 (by decide)), fun z => absurd rfl z⟩
  | true =>
    refine ⟨fun z => absurd z (by decide), fun _ => c_isText ?_⟩
    cases tb : isText b with
    | false => exact ⟨fun _ => no fun q => (by rw [tb] at q; exact absurd q.2.1 (by decide)), fun z => absurd rfl z⟩
    | true =>
      refine ⟨fun z => absurd z (by decide), fun _ => ?_⟩
      have b32 : byteOf b 3 = 0 → (b = 0 ∨ byteOf a 3 ≠ 0) → wX1_page_b32 post postX gp ad a b size c F M h mc ms := by
        intro hb3 hab
        refine c_outside (fun s0 s1 => ⟨fun _ => c_outside (fun c0 c1 => ⟨fun _ => ?_, fun w => absurd rfl w⟩) (fun co => ⟨fun w => absurd w (by decide), fun _ => no fun q => (by rcases co with w | w <;> lia)⟩), fun w => absurd rfl w⟩) (fun so => ⟨fun w => absurd w (by decide), fun _ => no fun q => (by rcases so with w | w <;> lia)⟩)
        rw [if_pos ⟨ta, tb, hb3, hab, s0, s1, c0, c1⟩] at hp0 hp1 hp2
        obtain ⟨na, a1, a2, a3, a4, a5⟩ := text_n ta
        obtain ⟨nb, b1, b2, b3, b4, b5⟩ := text_n tb
        -- the path
        refine ⟨0, 0, mc, ms, by omega, by omega, fun w => absurd w (by decide), fun _ => ⟨mc - 1, ms - 4, by omega, by omega, fun q hq => ⟨17, by decide, fun h1 e1 => ?_⟩⟩⟩
        have k1 : kp [] h h1 := by rw [e1]; exact kp.new0 hq
        have c1' := (congrFun e1 q).trans (x_hs_self _ _ _ _)
        refine ⟨1, 16, mc - 2, ms - 20, by omega, by omega, pJ8_init c1' (by decide) (by omega) (by omega) fun h2 hS2 hk2 => ?_⟩
        obtain ⟨f2, cc2⟩ := hS2.cell
        refine ⟨_, _, cc2, 1, 100, mc - 3, ms - 120, by omega, by omega, pJ8_append hS2 (by simp) (by decide) (by omega) (by omega) fun h3 hS3 hk3 => ?_⟩
        rw [zi_asc (x := 47) (by decide) (by decide)] at hS3
        refine ⟨4, 400, mc - 7, ms - 520, by omega, by omega, c_append hS3 (by simp) ta (by omega) (by omega) fun h4 hS4 hk4 => ⟨4, 400, mc - 11, ms - 920, by omega, by omega, c_append hS4 (by rw [List.length_append, a4]; simp; omega) tb (by omega) (by omega) fun h5 hS5 hk5 => ?_⟩⟩
        have ep : ([] ++ [(47 : Int32)] ++ textOf a) ++ textOf b = pathOf a b := by simp [pathOf]
        rw [ep] at hS5
        obtain ⟨f5, cc5⟩ := hS5.cell
        refine ⟨_, _, cc5, 2, 104, mc - 13, ms - 1024, by omega, by omega, pJ8_toString hS5 (by omega) (by omega) fun sa h6 hs6 hk6 => ⟨sa, rfl, ?_⟩⟩
        have kk : kp [17] h h6 := (((((k1.wk (by simp)).tr hk2).tr hk3).tr hk4).tr hk5).tr (hk6.wk (by simp))
        have hr := hR.k17 hB kk
        refine c_pageAt hr.2.2.1 hs6 (fun e => ⟨fun _ => ?_, fun x w => (by cases w)⟩) fun x pq e hx => ⟨fun w => (by cases w), fun _ _ => ?_⟩
        · rw [e] at hp0 hp2
          refine ⟨0, 0, mc - 13, ms - 1024, by omega, by omega, fun w => absurd w (by decide), fun _ => ?_⟩
          obtain ⟨xs, hL, ha⟩ := id hr.2.2.1
          have hlen := ha.len
          obtain ⟨fl, ccl⟩ := hL.cell
          refine ⟨_, _, ccl, pJ2_size hL ⟨fun w => ?_, fun w => ?_⟩⟩
          · have w : s.pages.length = 8 := by rw [← hlen]; exact (zi_eq (b := 8) (by omega) (by decide)).mp w
            rw [if_neg (by simp), if_pos w] at hp2
            exact ⟨by omega, by omega, hp2 rfl h6 hr⟩
          · have w : s.pages.length ≠ 8 := fun q => w (by rw [hlen, q]; rfl)
            rw [if_neg (by simp), if_neg w] at hp0
            refine ⟨mc - 14, ms - 1027, by omega, by omega, fun q7 hq7 => ⟨2, by decide, fun h7 e7 => ⟨sa, rfl, ?_⟩⟩⟩
            rw [e7]
            refine c_newPg hq7 hs6 fun h8 hpg hk8 => ?_
            have hr8 := hr.k0 hB hk8
            have hL8 := hL.kpt hk8 (by decide) (by decide)
            obtain ⟨fl8, ccl8⟩ := hL8.cell
            have ha8 : All2 (isPg h8) xs s.pages := ha.imp fun y p _ _ r => r.kpt hk8 (by decide) (by decide)
            refine ⟨_, _, ccl8, 1, 40, mc - 15, ms - 1067, by omega, by omega, pJ2_add hL8 (Bs.g0 hB hr8.2.1) (hpg.elt (by decide)) (fun y hy => ?_) (by omega) (by omega) (by omega) fun h9 hL9 hk9 => ?_⟩
            · obtain ⟨p, p1, p2⟩ := ha8.mem hy
              exact p2.elt (by decide)
            · have hpgs : HPg gp ad h9 (s.pages ++ [(pathOf a b, size, c)]) := ⟨xs ++ [q7], hL9, All2.append (cs := [q7]) (ds := [(pathOf a b, size, c)]) (ha8.imp fun y p _ _ r => r.kpt hk9 (by decide) (by decide)) ⟨hpg.kpt hk9 (by decide) (by decide), trivial⟩⟩
              obtain ⟨fl9, ccl9⟩ := hL9.cell
              refine ⟨_, _, ccl9, pJ2_size hL9 ?_⟩
              rw [show Int32.ofNat (xs ++ [q7]).length - 1 = Int32.ofNat s.pages.length by
                rw [List.length_append, hlen]; exact zi_sub (a := s.pages.length + 1) (b := 1) (by omega)]
              exact hp0 rfl h9 (hr8.pg hB hk9 hpgs)
        · rw [e] at hp1
          exact ⟨1, 6, 0, 0, by omega, by omega, fun _ => ⟨by omega, by omega, hp1 (by rw [if_pos (by simp)]) h6 hr⟩, fun z => absurd rfl z⟩
      refine ⟨fun z => ⟨fun w => b32 z (Or.inl w), fun w => ⟨fun y => no fun q => ?_, fun y => b32 z (Or.inr y)⟩⟩, fun z => no fun q => z q.2.2.1⟩
      rcases q.2.2.2.1 with x | x
      · exact w x
      · exact x y
