set_option maxRecDepth 100000
/-! PURE PART 56: the component's constructor -/
theorem c_spares {gp : Nat → Nat} {hb : x_H} {p0 sp : Nat} {fs : List Value} {post : (Nat → Nat) → (Nat → Int32) → (Nat → Nat → Int32) → x_H → Prop} (hB : Bs gp hb) (hf2 : fs[2]? = some (.ref sp)) : ∀ (d : Nat) (h : x_H) (qs : List Nat) (mc ms : Nat), qs.length + d = 4 → kp [] hb h → h p0 = some (30, .inr (0, fs)) → LST gp h sp 12 qs → (∀ q ∈ qs, isSp h q) → qs.Nodup → 2 * d + 60 ≤ mc → 40 * d + 1000 ≤ ms →
    (∀ h' qs' mc' ms', qs'.length = 4 → kp [] hb h' → kp [12] h h' → h' p0 = some (30, .inr (0, fs)) → LST gp h' sp 12 qs' → (∀ q ∈ qs', isSp h' q) → qs'.Nodup → 60 ≤ mc' → 1000 ≤ ms' →
      ∃ (ad : Nat → Nat) (F : Nat → Int32) (M : Nat → Nat → Int32) (h2 : x_H), ad 1000 = p0 ∧ (∀ q ∈ fixC ad F M, ∃ t : Nat, t ≠ 1 ∧ h' q.1 = some (t, q.2)) ∧ ((fixC ad F M).map (fun q => q.1)).Nodup ∧ h2 = x_dr h' ((fixC ad F M).map (fun q => q.1)) ∧ wX1_init_t post gp ad F M h2 mc' ms') →
    wX1_init_b90 post gp p0 (d + 1) h mc ms (Int32.ofNat qs.length) := by
  intro d
  induction d with
  | zero =>
    intro h qs mc ms hl hb0 hc hL hsp hnd hmc hms hp
    exact ⟨fun _ => hp h qs mc ms (by omega) hb0 kp.rf hc hL hsp hnd (by omega) (by omega), fun z => absurd ((zi_le (a := 4) (by decide) (by omega)).mpr (by omega)) z⟩
  | succ d ih =>
    intro h qs mc ms hl hb0 hc hL hsp hnd hmc hms hp
    refine ⟨fun z => ?_, fun _ => ⟨some sp, ⟨_, _, hc, hf2⟩, mc - 1, ms - 9, by omega, by omega, fun cq hq => ⟨20, by decide, fun h1 e1 => ⟨sp, rfl, ?_⟩⟩⟩⟩
    · rw [show (4 : Int32) = Int32.ofNat 4 from rfl, zi_le (by decide) (by omega)] at z; omega
    have k1 : kp [] h h1 := by rw [e1]; exact kp.new0 hq
    have s1 : isSp h1 cq := ⟨_, by rw [e1]; exact x_hs_self _ _ _ _, rfl, 0, rfl⟩
    have hb1 := hB.kpt hb0 k1 (by simp)
    have hL1 := hL.kpt k1 (by simp) (by simp)
    have sp1 : ∀ q ∈ qs, isSp h1 q := fun q hq' => (hsp q hq').kpt k1 (by simp)
    obtain ⟨fl, ccl⟩ := hL1.cell
    refine ⟨_, _, ccl, 1, 30, mc - 2, ms - 40, by omega, by omega, pJ2_add hL1 (Bs.g0 hB hb1) (s1.elt (by decide)) (fun y hy => (sp1 y hy).elt (by decide)) (by omega) (by omega) (by omega) fun h2 hL2 hk2 => ?_⟩
    have e4 : Int32.ofNat qs.length + 1 = Int32.ofNat (qs ++ [cq]).length := by rw [List.length_append]; exact zi_succ _
    rw [e4]
    refine ih h2 (qs ++ [cq]) _ _ (by rw [List.length_append]; simp; omega) (hB.kpt hb1 hk2 (by decide)) (hk2 _ _ _ (by decide) (k1 _ _ _ (by simp) hc)) hL2 (fun q hq' => ?_) ?_ (by omega) (by omega) fun h' qs' mc' ms' a1 a2 a3 a4 a5 a6 a7 a8 a9 => hp h' qs' mc' ms' a1 a2 (((k1.wk (by simp)).tr hk2).tr a3) a4 a5 a6 a7 a8 a9
    · rcases List.mem_append.mp hq' with w | w
      · exact (sp1 q w).kpt hk2 (by decide)
      · rw [List.mem_singleton.mp w]; exact s1.kpt hk2 (by decide)
    · refine List.nodup_append.mpr ⟨hnd, by simp, fun y hy z hz => ?_⟩
      rw [List.mem_singleton.mp hz]
      intro w
      obtain ⟨f', f1, -⟩ := hsp y hy
      rw [w, hq] at f1; cases f1
theorem c_ctor {gp : Nat → Nat} {hb h : x_H} {p0 mc ms : Nat} {post : (Nat → Nat) → (Nat → Int32) → (Nat → Nat → Int32) → x_H → Prop} (hB : Bs gp hb) (hb0 : kp [] hb h) (hc : h p0 = some (30, .inr (0, [.null, .null, .null, .null, .null, .null, .null, .int 0, .int 0, .int 0, .int 0, .int 0, .int 0, .int 0, .int 0, .int 0, .int 0, .int 0, .int 0, .int 0, .int 0, .int 0, .int 0, .int 0, .int 0, .null, .int 0]))) (hmc : 200 ≤ mc) (hms : 5000 ≤ ms) (hp : ∀ ad F M h', ad 1000 = p0 → RC gp ad hb F M h' (SS.restart s0M) → post ad F M h') : wX1_init post gp p0 h mc ms := by
  refine c_mkL (T := 30) (τ := 10) (fun cq => [.ref cq, .null, .null, .null, .null, .null, .null, .int 0, .int 0, .int 0, .int 0, .int 0, .int 0, .int 0, .int 0, .int 0, .int 0, .int 0, .int 0, .int 0, .int 0, .int 0, .int 0, .int 0, .int 0, .null, .int 0]) (by decide) (by decide) (by decide) hc (by decide) (fun _ => rfl) (Bs.o0 hB hb0) (by omega) (by omega) fun pg h1 c1 l1 k1 => ?_
  have b1 := hB.kpt hb0 k1 (by decide)
  refine c_mkL (T := 30) (τ := 11) (fun cq => [.ref pg, .ref cq, .null, .null, .null, .null, .null, .int 0, .int 0, .int 0, .int 0, .int 0, .int 0, .int 0, .int 0, .int 0, .int 0, .int 0, .int 0, .int 0, .int 0, .int 0, .int 0, .int 0, .int 0, .null, .int 0]) (by decide) (by decide) (by decide) c1 (by simp) (fun _ => rfl) (Bs.o0 hB b1) (by omega) (by omega) fun st h2 c2 l2 k2 => ?_
  have b2 := hB.kpt b1 k2 (by decide)
  refine c_mkL (T := 30) (τ := 12) (fun cq => [.ref pg, .ref st, .ref cq, .null, .null, .null, .null, .int 0, .int 0, .int 0, .int 0, .int 0, .int 0, .int 0, .int 0, .int 0, .int 0, .int 0, .int 0, .int 0, .int 0, .int 0, .int 0, .int 0, .int 0, .null, .int 0]) (by decide) (by decide) (by decide) c2 (by simp) (fun _ => rfl) (Bs.o0 hB b2) (by omega) (by omega) fun sp h3 c3 l3 k3 => ?_
  have b3 := hB.kpt b2 k3 (by decide)
  -- the table
  refine ⟨mc - 4, ms - 12, by omega, by omega, fun tb htb => ⟨31, by decide, fun h4 e4 => ⟨20, 400, mc - 24, ms - 412, by omega, by omega, ?_⟩⟩⟩
  have k4 : kp [] h3 h4 := by rw [e4]; exact kp.new0 htb
  refine c_table hB (hB.kpt b3 k4 (by simp)) (by rw [e4]; exact x_hs_self _ _ _ _) (by omega) (by omega) fun h5 fx cm w5 k5 => ?_
  have c5 := k5 _ _ _ (by decide) (k4 _ _ _ (by simp) c3)
  refine ⟨30, _, c5, by decide, by simp, fun h6 e6 => ?_⟩
  have k6 : kp [30] h5 h6 := by rw [e6]; exact kp.set c5 (by simp)
  have c6 := (congrFun e6 p0).trans (x_hs_self _ _ _ _)
  -- the reader
  refine ⟨mc - 25, ms - 417, by omega, by omega, fun rd hrd => ⟨32, by decide, fun h7 e7 => ⟨5, 200, mc - 30, ms - 617, by omega, by omega, ?_⟩⟩⟩
  have k7 : kp [] h6 h7 := by rw [e7]; exact kp.new0 hrd
  refine c_reader (by rw [e7]; exact x_hs_self _ _ _ _) (by omega) (by omega) fun h8 bk sb r8 bk8 sb8 k8 => ?_
  have c8 := k8 _ _ _ (by decide) (k7 _ _ _ (by simp) c6)
  refine ⟨30, _, c8, by decide, by simp, fun h9 e9 => ?_⟩
  have k9 : kp [30] h8 h9 := by rw [e9]; exact kp.set c8 (by simp)
  have c9 := (congrFun e9 p0).trans (x_hs_self _ _ _ _)
  have b9 := hB.kpt (hB.kpt (hB.kpt (hB.kpt (hB.kpt (hB.kpt b3 k4 (by simp)) k5 (by decide)) k6 (by decide)) k7 (by simp)) k8 (by decide)) k9 (by decide)
  -- the fields
  refine c_mkL (T := 30) (τ := 13) (fun cq => [.ref pg, .ref st, .ref sp, .ref tb, .ref rd, .ref cq, .null, .int 0, .int 0, .int 0, .int 0, .int 0, .int 0, .int 0, .int 0, .int 0, .int 0, .int 0, .int 0, .int 0, .int 0, .int 0, .int 0, .int 0, .int 0, .null, .int 0]) (by decide) (by decide) (by decide) c9 (by simp) (fun _ => rfl) (Bs.o0 hB b9) (by omega) (by omega) fun fl h10 c10 l10 k10 => ?_
  have b10 := hB.kpt b9 k10 (by decide)
  -- the frame
  refine ⟨mc - 32, ms - 824, by omega, by show 204 + (ms - 824) ≤ _; omega, by decide, by decide, fun fr hfr => ⟨34, by decide, fun h11 e11 => ?_⟩⟩
  have k11 : kp [] h10 h11 := by rw [e11]; exact kp.new0 hfr
  have f11 : h11 fr = some (34, .inl (.byte, (204, .inl (fun _ => 0)))) := by rw [e11]; exact x_hs_self _ _ _ _
  have c11 := k11 _ _ _ (by simp) c10
  refine ⟨30, _, c11, by decide, by simp, fun h12 e12 => ?_⟩
  have k12 : kp [30] h11 h12 := by rw [e12]; exact kp.set c11 (by simp)
  have c12 := (congrFun e12 p0).trans (x_hs_self _ _ _ _)
  -- the output
  refine ⟨mc - 33, ms - 2024, by omega, by show 1200 + (ms - 2024) ≤ _; omega, by decide, by decide, fun ou hou => ⟨35, by decide, fun h13 e13 => ?_⟩⟩
  have k13 : kp [] h12 h13 := by rw [e13]; exact kp.new0 hou
  have f13 : h13 ou = some (35, .inl (.byte, (1200, .inl (fun _ => 0)))) := by rw [e13]; exact x_hs_self _ _ _ _
  have c13 := k13 _ _ _ (by simp) c12
  refine ⟨30, _, c13, by decide, by simp, fun h14 e14 => ⟨5, ?_⟩⟩
  have k14 : kp [30] h13 h14 := by rw [e14]; exact kp.set c13 (by simp)
  have c14 : h14 p0 = some (30, .inr (0, [.ref pg, .ref st, .ref sp, .ref tb, .ref rd, .ref fl, .ref fr, .int 0, .int 0, .int 0, .int 0, .int 0, .int 0, .int 0, .int 0, .int 0, .int 0, .int 0, .int 0, .int 0, .int 0, .int 0, .int 0, .int 0, .int 0, .ref ou, .int 0])) := (congrFun e14 p0).trans (x_hs_self _ _ _ _)
  have kE : kp [30] h10 h14 := ((k11.wk (by simp)).tr k12).tr ((k13.wk (by simp)).tr k14)
  have kD : kp [30, 13] h9 h14 := (k10.wk (by simp)).tr (kE.wk (by simp))
  have kC : kp [30, 13, 32, 16] h6 h14 := ((k7.wk (by simp)).tr (k8.wk (by simp))).tr ((k9.wk (by simp)).tr (kD.wk (by simp)))
  have kC5 : kp [30, 13, 32, 16] h5 h14 := (k6.wk (by simp)).tr kC
  have kB : kp [30, 13, 32, 16, 31, 14, 15] h3 h14 := ((k4.wk (by simp)).tr (k5.wk (by simp))).tr (kC5.wk (by simp))
  have b14 := hB.kpt b10 kE (by decide)
  have l3' := l3.kpt kB (by decide) (by decide)
  have l2' := (l2.kpt k3 (by decide) (by decide)).kpt kB (by decide) (by decide)
  have l1' := ((l1.kpt k2 (by decide) (by decide)).kpt k3 (by decide) (by decide)).kpt kB (by decide) (by decide)
  obtain ⟨w51, w52, w53, xs, w54, w55⟩ := w5
  have t14 := kC5 _ _ _ (by decide) w52
  have cm14 := w53.kpt kC5 (by decide) (by decide)
  have fx14 := w54.kpt kC5 (by decide) (by decide)
  have en14 : All2 (isEn h14) xs fixedE := w55.imp fun y e _ _ r => r.kpt kC5 (by decide) (by decide)
  have kF : kp [30, 13] h8 h14 := (k9.wk (by simp)).tr kD
  have r14 := kF _ _ _ (by decide) r8
  have bk14 := kF _ _ _ (by decide) bk8
  have sb14 := sb8.kpt kF (by decide)
  have fl14 := l10.kpt kE (by decide) (by decide)
  have fr14 := ((k12.tr (k13.wk (by simp))).tr k14) _ _ _ (by decide) f11
  have ou14 := k14 _ _ _ (by decide) f13
  refine c_spares hB (sp := sp) rfl 4 h14 [] _ _ rfl b14 c14 l3' (fun q hq => (by cases hq)) List.nodup_nil (by omega) (by omega) fun h15 qs m15 n15 hq4 b15 k15 c15 l15 sp15 nd15 hm15 hn15 => ?_
  have t15 := k15 _ _ _ (by decide) t14
  have r15 := k15 _ _ _ (by decide) r14
  have bk15 := k15 _ _ _ (by decide) bk14
  have fr15 := k15 _ _ _ (by decide) fr14
  have ou15 := k15 _ _ _ (by decide) ou14
  obtain ⟨ad, a1000, a0, a1, a2, a3, a4, a5, a6, a25, a100, a101, a200, a201⟩ : ∃ ad : Nat → Nat, ad 1000 = p0 ∧ ad 0 = pg ∧ ad 1 = st ∧ ad 2 = sp ∧ ad 3 = tb ∧ ad 4 = rd ∧ ad 5 = fl ∧ ad 6 = fr ∧ ad 25 = ou ∧ ad 100 = fx ∧ ad 101 = cm ∧ ad 200 = bk ∧ ad 201 = sb := ⟨fun k => if k = 1000 then p0 else if k = 0 then pg else if k = 1 then st else if k = 2 then sp else if k = 3 then tb else if k = 4 then rd else if k = 5 then fl else if k = 6 then fr else if k = 25 then ou else if k = 100 then fx else if k = 101 then cm else if k = 200 then bk else if k = 201 then sb else 0, by simp, by simp, by simp, by simp, by simp, by simp, by simp, by simp, by simp, by simp, by simp, by simp, by simp⟩
  have hf : fixC ad (fun k => if k = 102 then 24 else 0) (fun _ _ => 0) = [(p0, .inr (0, [.ref pg, .ref st, .ref sp, .ref tb, .ref rd, .ref fl, .ref fr, .int 0, .int 0, .int 0, .int 0, .int 0, .int 0, .int 0, .int 0, .int 0, .int 0, .int 0, .int 0, .int 0, .int 0, .int 0, .int 0, .int 0, .int 0, .ref ou, .int 0])), (tb, .inr (1, [.ref fx, .ref cm, .int 24])), (rd, .inr (3, [.ref bk, .ref sb, .int 0, .int 0, .int 0])), (fr, .inl (.byte, (204, .inl (fun _ => 0)))), (ou, .inl (.byte, (1200, .inl (fun _ => 0)))), (bk, .inl (.byte, (100, .inl (fun _ => 0))))] := by
    simp [fixC, psF, tbF, rdF, a1000, a0, a1, a2, a3, a4, a5, a6, a25, a100, a101, a200, a201]
  have hz : ∀ q ∈ fixC ad (fun k => if k = 102 then 24 else 0) (fun _ _ => 0), ∃ t : Nat, t ≠ 1 ∧ h15 q.1 = some (t, q.2) ∧ t ∈ [30, 31, 32, 33, 34, 35] := by
    intro q hq
    rw [hf] at hq
    simp only [List.mem_cons, List.not_mem_nil, or_false] at hq
    rcases hq with rfl | rfl | rfl | rfl | rfl | rfl
    · exact ⟨30, by decide, c15, by decide⟩
    · exact ⟨31, by decide, t15, by decide⟩
    · exact ⟨32, by decide, r15, by decide⟩
    · exact ⟨34, by decide, fr15, by decide⟩
    · exact ⟨35, by decide, ou15, by decide⟩
    · exact ⟨33, by decide, bk15, by decide⟩
  have dif : ∀ {a b t u : Nat} {e e' : x_E}, h15 a = some (t, e) → h15 b = some (u, e') → t ≠ u → a ≠ b := fun ha hb' ht w => by
    rw [w, hb'] at ha
    exact ht (Prod.mk.inj (Option.some.inj ha)).1.symm
  refine ⟨ad, fun k => if k = 102 then 24 else 0, fun _ _ => 0, _, a1000, fun q hq => (hz q hq).elim fun t ht => ⟨t, ht.1, ht.2.1⟩, ?_, rfl, ?_⟩
  · rw [hf]
    simp only [List.map_cons, List.map_nil, List.nodup_cons, List.mem_cons, List.not_mem_nil, or_false, not_or, List.nodup_nil, not_false_eq_true, and_true]
    exact ⟨⟨dif c15 t15 (by decide), dif c15 r15 (by decide), dif c15 fr15 (by decide), dif c15 ou15 (by decide), dif c15 bk15 (by decide)⟩, ⟨dif t15 r15 (by decide), dif t15 fr15 (by decide), dif t15 ou15 (by decide), dif t15 bk15 (by decide)⟩, ⟨dif r15 fr15 (by decide), dif r15 ou15 (by decide), dif r15 bk15 (by decide)⟩, ⟨dif fr15 ou15 (by decide), dif fr15 bk15 (by decide)⟩, dif ou15 bk15 (by decide)⟩
  · have kd : kp [30, 31, 32, 33, 34, 35] h15 (x_dr h15 ((fixC ad (fun k => if k = 102 then 24 else 0) (fun _ _ => 0)).map (fun q => q.1))) := kp.dr fun a ha => by
      obtain ⟨q, q1, q2⟩ := List.mem_map.mp ha
      obtain ⟨t, t1, t2, t3⟩ := hz q q1
      rw [← q2]
      exact ⟨t, q.2, t2, t3⟩
    generalize x_dr h15 ((fixC ad (fun k => if k = 102 then 24 else 0) (fun _ _ => 0)).map (fun q => q.1)) = h16 at kd
    have kG : kp [12, 30, 31, 32, 33, 34, 35] h14 h16 := (k15.wk (by simp)).tr (kd.wk (by simp))
    have hR : RC gp ad hb (fun k => if k = 102 then 24 else 0) (fun _ _ => 0) h16 s0C := by
      refine ⟨⟨fun p hp => ?_, fun _ => ?_, fun _ => ?_, fun _ => ?_⟩, hB.kpt b15 kd (by decide), ⟨[], by rw [a0]; exact l1'.kpt kG (by decide) (by decide), trivial⟩, ⟨[], qs, by rw [a1]; exact l2'.kpt kG (by decide) (by decide), by rw [a2]; exact l15.kpt kd (by decide) (by decide), trivial, fun q hq => (sp15 q hq).kpt kd (by decide), by simpa using nd15, by simp [hq4]⟩, ⟨[], [], by rw [a5]; exact fl14.kpt kG (by decide) (by decide), trivial⟩, ⟨xs, by rw [a100]; exact fx14.kpt kG (by decide) (by decide), en14.imp fun y e _ _ r => r.kpt kG (by decide) (by decide)⟩, ⟨[], by rw [a101]; exact cm14.kpt kG (by decide) (by decide), trivial⟩, [], by rw [a201]; exact sb14.kpt kG (by decide), by simp⟩
      · show (if p.2 = 102 then (24 : Int32) else 0) = upd s0M.g 7 24 p.1
        have : ∀ p ∈ prs, (p.2 = 102 ↔ p.1 = 7) := by decide
        unfold upd
        by_cases w : p.2 = 102
        · rw [if_pos w, if_pos ((this p hp).mp w)]
        · rw [if_neg w, if_neg (fun q => w ((this p hp).mpr q))]; rfl
      · show (0 : Int32) &&& 255 = 0; decide
      · show (0 : Int32) &&& 255 = 0; decide
      · show (0 : Int32) &&& 255 = 0; decide
    refine ⟨m15, n15, 0, 0, by omega, by omega, c_restart hB hR (by omega) (by omega) fun F' M' h' hr => hp ad F' M' h' a1000 (by rw [s0CM] at hr; exact hr)⟩
