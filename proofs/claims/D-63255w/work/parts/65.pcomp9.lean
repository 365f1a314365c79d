set_option maxRecDepth 100000
/-! PURE PART 39: the component's Reader: names, literals, the block -/
theorem c_rknown {gp ad : Nat → Nat} {hb h : x_H} {F : Nat → Int32} {M : Nat → Nat → Int32} {s : SS} {k : Nat} {post : Option Nat → (Nat → Int32) → (Nat → Nat → Int32) → x_H → Prop} (hR : RC gp ad hb F M h s) (hI : Inv s) (hg : F 204 = 1) (hk : k ≤ 1000)
    (h1 : ∀ a e, s.ent k = some e → isEn h a e → post (some a) (upd F 204 1) M h) (h0 : s.ent k = none → post none (upd F 204 0) M h) : wX4_known post ad (Int32.ofNat k) F M h := by
  have ee : s.entI (Int32.ofNat k) = s.ent k := by
    unfold SS.entI
    rw [zi_nat (by omega)]
    by_cases z : k = 0
    · subst z; rfl
    · exact if_pos (show Int32.ofNat 1 ≤ Int32.ofNat k from (zi_le (by decide) (by omega)).mpr (by omega))
  refine c_at hR hI (fun e => ⟨fun z => absurd (hg.symm.trans z) (by decide), fun _ => ⟨fun _ => ?_, fun a q => (by cases q)⟩⟩) fun a e he hen => ⟨fun z => absurd (hg.symm.trans z) (by decide), fun _ => ⟨fun q => (by cases q), fun a' q => ?_⟩⟩
  · rw [ee] at e
    exact ⟨Or.inl rfl, h0 e⟩
  · rw [ee] at he
    cases q
    exact ⟨Or.inr rfl, h1 a e he hen⟩
/-- a new entry -/
theorem c_newEn {h : x_H} {n v mc ms : Nat} {nm vl : List Int32} {p2 : Int32} {gp ad : Nat → Nat} {F : Nat → Int32} {M : Nat → Nat → Int32} {post : Option Nat → (Nat → Int32) → (Nat → Nat → Int32) → x_H → Prop} (hmc : 1 ≤ mc) (hms : 2 ≤ ms) (hp : ∀ q h', (isStr h n nm → isStr h v vl → isEn h' q (nm, vl)) → kp [] h h' → post (some q) F M h') : wX4_literal_b62 post gp ad p2 F M h mc ms (some n) (some v) := by
  refine ⟨0, 0, by omega, by omega, fun q hq => ⟨2, by decide, fun h1 e1 => ⟨n, rfl, v, rfl, ?_⟩⟩⟩
  have k1 : ∀ (e1 e2 e3 : x_E), kp [] h (x_hs (x_hs (x_hs h q 2 e1) q 2 e2) q 2 e3) := fun e1 e2 e3 q' t e _ hq' => by
    have hne : q' ≠ q := fun w => by subst w; rw [hq] at hq'; cases hq'
    rw [x_hs_ne hne, x_hs_ne hne, x_hs_ne hne]; exact hq'
  subst e1
  refine ⟨_, _, x_hs_self _ _ _ _, by decide, by decide, fun h2 e2 => ⟨2, [.ref n, .null], by rw [e2]; exact x_hs_self _ _ _ _, by decide, by simp, fun h3 e3 => hp q h3 (fun hn hv => ?_) ?_⟩⟩
  · subst e2; subst e3
    exact ⟨n, v, x_hs_self _ _ _ _, hn.kpt (k1 _ _ _) (by decide) (by decide), hv.kpt (k1 _ _ _) (by decide) (by decide)⟩
  · subst e2; subst e3; exact k1 _ _ _
theorem c_val {gp ad : Nat → Nat} {hb h : x_H} {F : Nat → Int32} {M : Nat → Nat → Int32} {s : SS} {p2 : Int32} {n i na : Nat} {nm : List Int32} {mc ms : Nat} {post : Option Nat → (Nat → Int32) → (Nat → Nat → Int32) → x_H → Prop} (hB : Bs gp hb) (hR : RC gp ad hb F M h s) (hI : Inv s) (hn : s.g 34 = Int32.ofNat n) (hn1 : n ≤ 100) (hi : F 203 = Int32.ofNat i) (hi1 : i ≤ n) (hg : F 204 = 1) (hna : isStr h na nm)
    (h1 : ∀ cs i', rdStr (s.a 35) n 0 i = some (cs, i') → (cs.length + 4 ≤ mc ∧ 100 * cs.length + 206 ≤ ms) ∧ ∀ q F' h', RC gp ad hb F' M h' s → isEn h' q (nm, cs) → F' 203 = Int32.ofNat i' → F' 204 = 1 → kp [16] h h' → post (some q) F' M h')
    (h0 : rdStr (s.a 35) n 0 i = none → (31 ≤ mc ∧ 2502 ≤ ms) ∧ ∀ q F' h', RC gp ad hb F' M h' s → F' 204 = 0 → kp [16] h h' → post (some q) F' M h') : wX4_literal_b43 post gp ad p2 F M h mc ms (some na) := by
  have hbud : 4 ≤ mc ∧ 206 ≤ ms := by
    cases e : rdStr (s.a 35) n 0 i with
    | none => have := (h0 e).1; omega
    | some q => have := (h1 q.1 q.2 e).1; omega
  refine ⟨fun z => absurd (hg.symm.trans z) (by decide), fun _ => ⟨mc - 1, ms - 2, 1, 2, by omega, by omega, c_string hB hR hI hn hn1 hi hi1 hg (by decide) (fun cs i' e => ⟨by have := (h1 cs i' e).1; omega, fun q F' h' hr hq e1 e2 hk => ?_⟩) fun e => ⟨by have := (h0 e).1; omega, fun q F' h' hr e2 hk => ?_⟩⟩⟩
  · exact c_newEn (by omega) (by omega) fun q2 h2 hen hk2 => (h1 cs i' e).2 q2 F' h2 (hr.k0 hB hk2) (hen (hna.kpt hk (by decide) (by decide)) hq) e1 e2 (hk.tr (hk2.wk (by simp)))
  · exact c_newEn (nm := []) (vl := []) (by omega) (by omega) fun q2 h2 hen hk2 => (h0 e).2 q2 F' h2 (hr.k0 hB hk2) e2 (hk.tr (hk2.wk (by simp)))
theorem c_literal {gp ad : Nat → Nat} {hb h : x_H} {F : Nat → Int32} {M : Nat → Nat → Int32} {s : SS} {n i k : Nat} {mc ms : Nat} {post : Option Nat → (Nat → Int32) → (Nat → Nat → Int32) → x_H → Prop} (hB : Bs gp hb) (hR : RC gp ad hb F M h s) (hI : Inv s) (hn : s.g 34 = Int32.ofNat n) (hn1 : n ≤ 100) (hi : F 203 = Int32.ofNat i) (hi1 : i ≤ n) (hg : F 204 = 1) (hk : k ≤ 1000)
    (h1 : ∀ e i', s.rdLit n k i = some (e, i') → (5 * (i' - i) ≤ mc ∧ 312 * (i' - i) ≤ ms) ∧ ∀ q F' h', RC gp ad hb F' M h' s → isEn h' q e → F' 203 = Int32.ofNat i' → F' 204 = 1 → kp [16] h h' → post (some q) F' M h')
    (h0 : s.rdLit n k i = none → (70 ≤ mc ∧ 5100 ≤ ms) ∧ ∀ q F' h', RC gp ad hb F' M h' s → F' 204 = 0 → kp [16] h h' → post (some q) F' M h') : wX4_literal post gp ad (Int32.ofNat k) F M h mc ms := by
  have el : s.rdLit n k i = (s.rdName n k i).bind fun q => (rdStr (s.a 35) n 0 q.2).map fun r => ((q.1, r.1), r.2) := rfl
  -- what a failed read leaves
  have bad : ∀ (F1 : Nat → Int32) (h2 : x_H) (x4 : Nat) (m1 m2 : Nat), s.rdLit n k i = none → RC gp ad hb F1 M h2 s → F1 204 = 0 → kp [16] h h2 → 1 ≤ m1 → 2 ≤ m2 → wX4_literal_b43 post gp ad (Int32.ofNat k) F1 M h2 m1 m2 (some x4) := by
    intro F1 h2 x4 m1 m2 e hr hg1 hk1 hm1 hm2
    exact ⟨fun _ => c_newEn (nm := []) (vl := []) hm1 hm2 fun q2 h3 hen hk2 => (h0 e).2 q2 F1 h3 (hr.k0 hB hk2) hg1 (hk1.tr (hk2.wk (by simp))), fun z => absurd hg1 z⟩
  by_cases hk0 : k = 0
  · subst hk0
    refine ⟨fun _ => ⟨fun _ => ⟨fun z => absurd (hg.symm.trans z) (by decide), fun _ => ?_⟩, fun a q => (by cases q)⟩, fun z => absurd rfl z⟩
    have en : s.rdName n 0 i = rdStr (s.a 35) n 1 i := rfl
    rw [en] at el
    cases er : rdStr (s.a 35) n 1 i with
    | none =>
      rw [er] at el
      have hb0 := (h0 el).1
      refine ⟨30, 2500, 1, 2, by omega, by omega, c_string hB hR hI hn hn1 hi hi1 hg (by decide) (fun cs i' e => by rw [er] at e; cases e) fun e => ⟨by omega, fun q F' h' hr e2 hk => bad F' h' q 1 2 el hr e2 hk (by omega) (by omega)⟩⟩
    | some nq =>
      obtain ⟨nm, j⟩ := nq
      rw [er] at el
      have el : s.rdLit n 0 i = (rdStr (s.a 35) n 0 j).map fun r => ((nm, r.1), r.2) := el
      obtain ⟨a1, a2, a3, a4, a5⟩ := rdStr_ok hI.bk er
      have a6 : j = i + 1 + nm.length := by
        have e1 : rdStr (s.a 35) n 1 i = if i < n then (if s.a 35 i < 1 ∨ 20 < s.a 35 i then none else rdChars (s.a 35) n (s.a 35 i).toNatClampNeg (i + 1)) else none := rfl
        rw [er] at e1
        rw [if_pos (by omega)] at e1
        split at e1
        · cases e1
        · obtain ⟨c1, c2, c3, c4⟩ := rdChars_ok _ _ (by omega) e1.symm
          omega
      have a7 : 1 ≤ nm.length := by
        have : Int32.ofNat 1 ≤ Int32.ofNat nm.length := a4
        rwa [zi_le (by decide) (by omega)] at this
      have hbud : nm.length + 7 ≤ mc ∧ 100 * nm.length + 410 ≤ ms := by
        cases e : rdStr (s.a 35) n 0 j with
        | none => rw [e] at el; have := (h0 el).1; omega
        | some q =>
          rw [e] at el
          have := (h1 _ _ el).1
          have l := rdStr_ok hI.bk (cs := q.1) (i' := q.2) e
          have : q.2 - i ≥ 2 + nm.length := by omega
          omega
      refine ⟨nm.length + 3, 100 * nm.length + 204, mc - (nm.length + 3), ms - (100 * nm.length + 204), by omega, by omega, c_string hB hR hI hn hn1 hi hi1 hg (by decide) (fun cs i' e => ?_) fun e => by rw [er] at e; cases e⟩
      rw [er] at e
      cases e
      refine ⟨by omega, fun q F' h' hr hq e1 e2 hkk => c_val hB hr hI hn hn1 e1 a2 e2 hq (fun v i' ev => ?_) fun ev => ?_⟩
      · rw [ev] at el
        have hh := h1 _ _ el
        have l := rdStr_ok hI.bk ev
        have a8 : i' = j + 1 + v.length := by
          have e1 : rdStr (s.a 35) n 0 j = if j < n then (if s.a 35 j < 0 ∨ 20 < s.a 35 j then none else rdChars (s.a 35) n (s.a 35 j).toNatClampNeg (j + 1)) else none := rfl
          rw [ev] at e1
          rw [if_pos (by omega)] at e1
          split at e1
          · cases e1
          · obtain ⟨c1, c2, c3, c4⟩ := rdChars_ok _ _ (by omega) e1.symm
            omega
        exact ⟨by omega, fun q2 F2 h2 hr2 hen f1 f2 hk2 => hh.2 q2 F2 h2 hr2 hen f1 f2 (hkk.tr hk2)⟩
      · rw [ev] at el
        have hh := h0 el
        exact ⟨by omega, fun q2 F2 h2 hr2 f2 hk2 => hh.2 q2 F2 h2 hr2 f2 (hkk.tr hk2)⟩
  · refine ⟨fun z => ?_, fun _ => c_rknown hR hI hg hk (fun a e he hen => ?_) fun e => ?_⟩
    · rw [show (0 : Int32) = Int32.ofNat 0 from rfl, zi_eq (by omega) (by decide)] at z; exact absurd z hk0
    · have en : s.rdName n k i = some (e.1, i) := by unfold SS.rdName; rw [if_neg hk0, he]; rfl
      rw [en] at el
      have el : s.rdLit n k i = (rdStr (s.a 35) n 0 i).map fun r => ((e.1, r.1), r.2) := el
      obtain ⟨fs, ce⟩ := hen.cell
      obtain ⟨na, va, c1, c2, c3⟩ := hen
      refine ⟨fun q => (by cases q), fun a' q => ?_⟩
      cases q
      refine ⟨_, _, ce, some na, ⟨_, _, c1, rfl⟩, c_val hB (hR.priv 204 1) hI hn hn1 (by rw [upd_ne (by decide)]; exact hi) hi1 (by simp [upd]) c2 (fun v i' ev => ?_) fun ev => ?_⟩
      · rw [ev] at el
        have hh := h1 _ _ el
        have l := rdStr_ok hI.bk ev
        have a8 : i' = i + 1 + v.length := by
          have e1 : rdStr (s.a 35) n 0 i = if i < n then (if s.a 35 i < 0 ∨ 20 < s.a 35 i then none else rdChars (s.a 35) n (s.a 35 i).toNatClampNeg (i + 1)) else none := rfl
          rw [ev] at e1
          rw [if_pos (by omega)] at e1
          split at e1
          · cases e1
          · obtain ⟨c1, c2, c3, c4⟩ := rdChars_ok _ _ (by omega) e1.symm
            omega
        exact ⟨by omega, hh.2⟩
      · rw [ev] at el
        have hh := h0 el
        exact ⟨by omega, hh.2⟩
    · have en : s.rdName n k i = none := by unfold SS.rdName; rw [if_neg hk0, e]; rfl
      rw [en] at el
      have hb0 := (h0 el).1
      refine ⟨fun _ => ⟨fun _ => ?_, fun z => absurd (by simp [upd]) z⟩, fun a q => (by cases q)⟩
      exact bad _ h (gp 16) mc ms el (hR.priv 204 0) (by simp [upd]) (kp.rf) (by omega) (by omega)
