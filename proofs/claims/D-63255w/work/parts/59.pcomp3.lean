set_option maxRecDepth 100000
/-! PURE PART 33: the component: a stream's cell written, a stream over, pages looked up -/
theorem isSt.num_eq {h : x_H} {a : Nat} {p q : St} (h1 : isSt h a p) (h2 : isSt h a q) : p.num = q.num := by
  obtain ⟨b, ma, pa, ms, a1, -⟩ := h1
  obtain ⟨b', ma', pa', ms', a1', -⟩ := h2
  rw [a1] at a1'
  simp only [Option.some.injEq, Prod.mk.injEq, Sum.inr.injEq, List.cons.injEq, Value.int.injEq] at a1'
  exact a1'.2.2.1
theorem HW.inj {gp ad : Nat → Nat} {h : x_H} {l : List St} {ss qs : List Nat} (hw : HW gp ad h l ss qs) (hi : InvS l) {a a' : Nat} {p q : St} (ha : a ∈ ss) (ha' : a' ∈ ss) (hp : isSt h a p) (hq : isSt h a' q) (hpl : p ∈ l) (hql : q ∈ l) (e : p.num = q.num) : a = a' := by
  obtain ⟨i, hi1, e1⟩ := List.getElem_of_mem ha
  obtain ⟨j, hj1, e2⟩ := List.getElem_of_mem ha'
  have g1 : ss[i]? = some a := by rw [List.getElem?_eq_getElem hi1, e1]
  have g2 : ss[j]? = some a' := by rw [List.getElem?_eq_getElem hj1, e2]
  obtain ⟨p', p1, p2⟩ := hw.2.2.1.get g1
  obtain ⟨q', q1, q2⟩ := hw.2.2.1.get g2
  have := hi.inj p1 q1 (by rw [← hp.num_eq p2, ← hq.num_eq q2, e])
  subst this
  rw [g1] at g2; exact Option.some.inj g2
theorem isSt.other {h : x_H} {a a' : Nat} {q : St} {e0 e : x_E} (hq : isSt h a' q) (hne : a' ≠ a) (hc : h a = some (20, e0)) : isSt (x_hs h a 20 e) a' q := by
  have hk : kp [20] h (x_hs h a 20 e) := kp.set hc (by simp)
  obtain ⟨b, ma, pa, ms, a1, a2, a3, a4, a5⟩ := hq
  exact ⟨b, ma, pa, ms, by rw [x_hs_ne hne]; exact a1, a2, a3.kpt hk (by simp) (by simp), a4, a5.kpt hk (by simp) (by simp)⟩
theorem HW.mod {gp ad : Nat → Nat} {h : x_H} {l : List St} {ss qs : List Nat} {a : Nat} {st : St} {e0 e : x_E} {f : St → St} {n : Int32} (hw : HW gp ad h l ss qs) (hi : InvS l) (ha : a ∈ ss) (hst : isSt h a st) (hs : st ∈ l) (hn : st.num = n) (hc : h a = some (20, e0)) (hnew : isSt (x_hs h a 20 e) a (f st)) : HW gp ad (x_hs h a 20 e) (l.map (fun q => if q.num = n then f q else q)) ss qs := by
  subst hn
  have hk : kp [20] h (x_hs h a 20 e) := kp.set hc (by simp)
  have hw' := hw
  obtain ⟨a1, a2, a3, a4, a5, a6⟩ := hw
  refine ⟨a1.kpt hk (by simp) (by simp), a2.kpt hk (by simp) (by simp), a3.mapR fun a' q ha' hq r => ?_, fun q hq => ?_, a5, a6⟩
  · by_cases en : q.num = st.num
    · rw [if_pos en]
      have : a' = a := hw'.inj hi ha' ha r hst hq hs en
      subst this
      have : q = st := hi.uniq hq hs en
      rw [this]; exact hnew
    · rw [if_neg en]
      have hne : a' ≠ a := fun w => en (by subst w; exact r.num_eq hst)
      exact r.other hne hc
  · obtain ⟨fs, f1, f2⟩ := a4 q hq
    have hne : q ≠ a := fun w => by
      subst w
      exact (List.nodup_append.mp a5).2.2 q ha q hq rfl
    exact ⟨fs, by rw [x_hs_ne hne]; exact f1, f2⟩
/-! over -/
def rmv (a : Nat) : Nat → List Nat → List Nat
  | 0, xs => xs
  | k + 1, xs => rmv a k (if xs[k]? = some a then xs.eraseIdx k else xs)
theorem rmv_eq (a : Nat) : ∀ (k : Nat) (xs : List Nat), k ≤ xs.length → rmv a k xs = (xs.take k).filter (fun x => x != a) ++ xs.drop k
  | 0, xs, _ => by simp [rmv]
  | k + 1, xs, h => by
    have hk : k < xs.length := by omega
    have e1 : xs[k]? = some xs[k] := List.getElem?_eq_getElem hk
    have e2 : xs.take (k + 1) = xs.take k ++ [xs[k]] := by rw [List.take_succ, e1]; rfl
    have e3 : xs.drop k = xs[k] :: xs.drop (k + 1) := List.drop_eq_getElem_cons hk
    show rmv a k (if xs[k]? = some a then xs.eraseIdx k else xs) = _
    rw [e1]
    by_cases e : xs[k] = a
    · rw [if_pos (by rw [e])]
      have l1 : (xs.eraseIdx k).length = xs.length - 1 := by rw [List.length_eraseIdx]; simp [hk]
      rw [rmv_eq a k _ (by omega), e2, List.filter_append]
      have t1 : (xs.eraseIdx k).take k = xs.take k := by rw [List.eraseIdx_eq_take_drop_succ, List.take_append_of_le_length (by simp; omega), List.take_take, Nat.min_self]
      have t2 : (xs.eraseIdx k).drop k = xs.drop (k + 1) := by
        rw [List.eraseIdx_eq_take_drop_succ, List.drop_append_of_le_length (by simp; omega)]
        have : (xs.take k).drop k = [] := List.drop_eq_nil_of_le (by simp; omega)
        rw [this]; rfl
      rw [t1, t2]; simp [e]
    · rw [if_neg (fun w => e (Option.some.inj w))]
      rw [rmv_eq a k xs (by omega), e2, e3, List.filter_append]
      have : [xs[k]].filter (fun x => x != a) = [xs[k]] := by simp [e]
      rw [this, List.append_assoc]; rfl
theorem rmv_all (a : Nat) (xs : List Nat) : rmv a xs.length xs = xs.filter (fun x => x != a) := by
  rw [rmv_eq a _ xs (Nat.le_refl _)]; simp
theorem isSp.elt {h : x_H} {a t : Nat} (hs : isSp h a) (ht : t ≠ 20) : elt h t a := by
  obtain ⟨fs, a1, a2⟩ := hs
  exact ⟨20, 4, fs, a1, Ne.symm ht, Or.inr (Or.inl rfl)⟩
theorem c_over_loop {gp ad : Nat → Nat} {F : Nat → Int32} {M : Nat → Nat → Int32} {n : Int32} {a mc ms : Nat} {post : (Nat → Int32) → (Nat → Nat → Int32) → x_H → Prop} : ∀ (k : Nat) (h : x_H) (xs : List Nat), LST gp h (ad 1) 11 xs → k ≤ xs.length → (∀ x ∈ xs, elt h 11 x) → (∀ h' : x_H, LST gp h' (ad 1) 11 (rmv a k xs) → kp [11] h h' → wX1_over_b52 post gp ad n F M h' mc ms a) → wX1_over_b21 post gp ad n (k + 1) F M h mc ms a (Int32.ofNat k - 1) := by
  intro k
  induction k with
  | zero =>
    intro h xs hL hk hel hp
    exact ⟨fun _ => hp h hL kp.rf, fun z => absurd (by decide) z⟩
  | succ k ih =>
    intro h xs hL hk hel hp
    have hlen := hL.len
    have e1 : Int32.ofNat (k + 1) - 1 = Int32.ofNat k := zi_sub (a := k + 1) (b := 1) (by omega)
    have e2 : Int32.ofNat k + (-1) = Int32.ofNat k - 1 := (Int32.sub_eq_add_neg _ _).symm
    obtain ⟨fs1, hc1⟩ := hL.cell
    rw [e1]
    refine ⟨fun z => absurd z (zi_nonneg (by omega)), fun _ => ⟨_, _, hc1, pJ2_get hL (by omega) fun x hx => ⟨fun e => ?_, fun e => ?_⟩⟩⟩
    · have e := Option.some.inj e
      subst e
      refine ⟨_, _, hc1, pJ2_remove hL hel (by omega) fun y h' hy hL' hk' => ?_⟩
      unfold wX1_over_b46
      rw [e2]
      have hle : (xs.eraseIdx k).length = xs.length - 1 := by rw [List.length_eraseIdx]; simp [show k < xs.length by omega]
      refine ih h' _ hL' (by omega) (fun z hz => (hel z (List.eraseIdx_subset hz)).kpt hk') fun h2 hL2 hk2 => hp h2 ?_ (hk'.tr hk2)
      show LST gp h2 (ad 1) 11 (rmv x k (if xs[k]? = some x then xs.eraseIdx k else xs))
      rw [if_pos hx]; exact hL2
    · unfold wX1_over_b46
      rw [e2]
      refine ih h xs hL (by omega) hel fun h2 hL2 hk2 => hp h2 ?_ hk2
      show LST gp h2 (ad 1) 11 (rmv a k (if xs[k]? = some a then xs.eraseIdx k else xs))
      rw [if_neg (fun w => e (by rw [← hx, w]))]; exact hL2
theorem c_over {gp ad : Nat → Nat} {hb h : x_H} {F : Nat → Int32} {M : Nat → Nat → Int32} {s : SS} {n : Int32} {mc ms : Nat} {post : (Nat → Int32) → (Nat → Nat → Int32) → x_H → Prop} (hB : Bs gp hb) (hR : RC gp ad hb F M h s) (hi : InvS s.sts) (hmc : 1 ≤ mc) (hms : 20 ≤ ms) (hp : ∀ h', RC gp ad hb F M h' (SS.over n s) → post F M h') : wX1_over post gp ad n F M h mc ms := by
  obtain ⟨hF, hb0, hpg, ⟨ss, qs, hw⟩, hfl, hfx, hcm, hsb⟩ := hR
  refine c_known hw hi (fun hf => ⟨fun _ => ?_, fun a q => (by cases q)⟩) (fun a st hf ha hst => ⟨fun q => (by cases q), fun a' q => ?_⟩)
  · have e : SS.over n s = s := by
      have e : s.sts.filter (fun st => st.num != n) = s.sts := List.filter_eq_self.mpr fun st hs => by simpa using find_none hf st hs
      unfold SS.over
      rw [e]; rfl
    rw [e] at hp
    exact hp h ⟨hF, hb0, hpg, ⟨ss, qs, hw⟩, hfl, hfx, hcm, hsb⟩
  · cases q
    obtain ⟨hs1, hs2⟩ := find_some hf
    have hw' : HW gp ad h s.sts ss qs := hw
    obtain ⟨a1, a2, a3, a4, a5, a6⟩ := hw
    obtain ⟨fs1, hc1⟩ := a1.cell
    have hel : ∀ x ∈ ss, elt h 11 x := fun x hx => by
      obtain ⟨q, q1, q2⟩ := a3.mem hx
      exact q2.sp.elt (by decide)
    refine ⟨_, _, hc1, pJ2_size a1 ⟨ss.length + 1, c_over_loop ss.length h ss a1 (Nat.le_refl _) hel fun h1 hL1 hk1 => ?_⟩⟩
    rw [rmv_all] at hL1
    have a2' := a2.kpt hk1 (by decide) (by decide)
    obtain ⟨fs2, hc2⟩ := a2'.cell
    have hsp : ∀ x ∈ ss ++ qs, isSp h1 x := fun x hx => by
      rcases List.mem_append.mp hx with w | w
      · obtain ⟨q, q1, q2⟩ := a3.mem w
        exact q2.sp.kpt hk1 (by decide)
      · exact (a4 x w).kpt hk1 (by decide)
    refine ⟨_, _, hc2, mc, ms, 0, 0, by omega, by omega, pJ2_add a2' (Bs.g0 hB (hB.kpt hb0 hk1 (by decide))) ((hsp a (by simp [ha])).elt (by decide)) (fun y hy => (hsp y (by simp [hy])).elt (by decide)) (by omega) hmc (by omega) fun h2 hL2 hk2 => hp h2 ?_⟩
    have kk : kp [11, 12] h h2 := (hk1.wk (by simp)).tr (hk2.wk (by simp))
    have nd := List.nodup_append.mp a5
    have hae : ss.filter (fun x => x != a) = ss.erase a := (nd.1.erase_eq_filter a).symm
    refine ⟨hF.cong rfl rfl, hB.kpt hb0 kk (by decide), hpg.kpt kk (by decide), ⟨ss.filter (fun x => x != a), qs ++ [a], hL1.kpt hk2 (by decide) (by decide), hL2, ?_, ?_, ?_, ?_⟩, hfl.elim fun fs h => ⟨fs, h.kpt kk (by decide)⟩, hfx.kpt kk (by decide), hcm.kpt kk (by decide), hsb.kpt kk (by decide)⟩
    · have h1 : All2 (isSt h) (ss.filter (fun x => x != a)) (s.sts.filter (fun st => st.num != n)) := a3.filter fun a' q ha' hq r => by
        by_cases e : a' = a
        · subst e
          have : q.num = n := by rw [← hs2]; exact r.num_eq hst
          simp [this]
        · have : q.num ≠ n := fun w => e (hw'.inj hi ha' ha r hst hq hs1 (by rw [w, hs2]))
          show (a' != a) = (q.num != n)
          rw [bne_iff_ne.mpr e, bne_iff_ne.mpr this]
      exact h1.imp fun a' q ha' hq r => r.kpt kk (by decide) (by decide) (by decide)
    · intro x hx
      rcases List.mem_append.mp hx with w | w
      · exact (hsp x (by simp [w])).kpt hk2 (by decide)
      · rw [List.mem_singleton.mp w]; exact (hsp a (by simp [ha])).kpt hk2 (by decide)
    · rw [← List.append_assoc]
      refine List.nodup_append.mpr ⟨List.nodup_append.mpr ⟨nd.1.filter _, nd.2.1, fun x hx y hy => nd.2.2 x (List.mem_filter.mp hx).1 y hy⟩, by simp, fun x hx y hy => ?_⟩
      rw [List.mem_singleton.mp hy]
      rcases List.mem_append.mp hx with w | w
      · have := (List.mem_filter.mp w).2
        simpa using this
      · exact fun e => nd.2.2 a ha x w e.symm
    · rw [hae, List.length_erase_of_mem ha, List.length_append]
      have : 0 < ss.length := List.length_pos_of_mem ha
      show ss.length - 1 + (qs.length + 1) = 4
      omega
/-! pages -/
theorem c_pageAt {gp ad : Nat → Nat} {h : x_H} {F : Nat → Int32} {M : Nat → Nat → Int32} {s : SS} {pa : Nat} {path : List Int32} {post : Option Nat → Prop} (hpg : HPg gp ad h s.pages) (hs : isStr h pa path) (h0 : s.pageAt path = none → post none) (h1 : ∀ a q, s.pageAt path = some q → isPg h a q → post (some a)) : wX1_pageAt post ad pa F M h := by
  obtain ⟨xs, hL, ha⟩ := hpg
  have hlen := ha.len
  have hcap := hL.len
  obtain ⟨fs1, hc1⟩ := hL.cell
  have key : ∀ (d i : Nat) (x2 : Option Nat) (accP : Option Pg), i + d = xs.length → ((x2 = none ∧ accP = none) ∨ ∃ a q, isPg h a q ∧ x2 = some a ∧ accP = some q) →
      (∀ r, ((r = none ∧ (s.pages.drop i).foldl (fun acc q => if q.1 = path then some q else acc) accP = none) ∨ ∃ a q, isPg h a q ∧ r = some a ∧ (s.pages.drop i).foldl (fun acc q => if q.1 = path then some q else acc) accP = some q) → post r) → wX1_pageAt_b4 post ad pa F M h (d + 1) x2 (Int32.ofNat i) := by
    intro d
    induction d with
    | zero =>
      intro i x2 accP hid hx hp
      rw [List.drop_eq_nil_of_le (by omega)] at hp
      exact ⟨_, _, hc1, pJ2_size hL ⟨fun _ => hp x2 hx, fun z => absurd ((zi_le (by omega) (by omega)).mpr (by omega)) z⟩⟩
    | succ d ih =>
      intro i x2 accP hid hx hp
      have hil : i < s.pages.length := by omega
      rw [List.drop_eq_getElem_cons hil, List.foldl_cons] at hp
      refine ⟨_, _, hc1, pJ2_size hL ⟨fun z => ?_, fun _ => ⟨_, _, hc1, pJ2_get hL (by omega) fun a hxa => ?_⟩⟩⟩
      · rw [zi_le (by omega) (by omega)] at z; omega
      obtain ⟨q, hq, hcell⟩ := ha.get hxa
      rw [List.getElem?_eq_getElem hil] at hq
      have hq := Option.some.inj hq
      rw [hq] at hp
      have hcell' := hcell
      obtain ⟨sa, c1, c2⟩ := hcell'
      obtain ⟨t, fs, c3⟩ := c2.cell
      refine ⟨a, rfl, _, _, c1, _, _, c1, some sa, ⟨_, _, c1, rfl⟩, sa, rfl, _, _, c3, pJ9_equals c2 hs (fun e => ⟨fun z => absurd z (by decide), fun _ => ?_⟩) (fun e => ⟨fun _ => ?_, fun z => absurd rfl z⟩)⟩
      · unfold wX1_pageAt_b46
        rw [zi_succ]
        rw [if_pos e] at hp
        exact ih (i + 1) _ (some q) (by omega) (Or.inr ⟨a, q, hcell, rfl, rfl⟩) hp
      · unfold wX1_pageAt_b46
        rw [zi_succ]
        rw [if_neg e] at hp
        exact ih (i + 1) _ accP (by omega) hx hp
  refine ⟨xs.length + 1, key xs.length 0 none none (by omega) (Or.inl ⟨rfl, rfl⟩) fun r hr => ?_⟩
  rw [List.drop_zero] at hr
  rcases hr with ⟨rfl, e⟩ | ⟨a, q, hq, rfl, e⟩
  · exact h0 e
  · exact h1 a q e hq
