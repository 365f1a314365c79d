set_option maxRecDepth 100000
/-! PURE PART 38: the component's Reader -/
theorem RC.k0 {gp ad : Nat → Nat} {hb h h' : x_H} {F : Nat → Int32} {M : Nat → Nat → Int32} {s : SS} (hB : Bs gp hb) (hR : RC gp ad hb F M h s) (hk : kp [] h h') : RC gp ad hb F M h' s := by
  obtain ⟨hF, hb0, hpg, hst, hfl, hfx, hcm, hsb⟩ := hR
  exact ⟨hF, hB.kpt hb0 hk (by decide), hpg.kpt hk (by simp), hst.kpt hk (by simp), hfl.elim fun fs h => ⟨fs, h.kpt hk (by simp)⟩, hfx.kpt hk (by simp), hcm.kpt hk (by simp), hsb.kpt hk (by simp)⟩
theorem RC.sb {gp ad : Nat → Nat} {hb h h' : x_H} {F : Nat → Int32} {M : Nat → Nat → Int32} {s : SS} {cs : List Int32} (hB : Bs gp hb) (hR : RC gp ad hb F M h s) (hk : kp [16] h h') (hS : SB h' (ad 201) 16 cs) (hl : cs.length ≤ 40) : RC gp ad hb F M h' s := by
  obtain ⟨hF, hb0, hpg, hst, hfl, hfx, hcm, hsb⟩ := hR
  exact ⟨hF, hB.kpt hb0 hk (by decide), hpg.kpt hk (by decide), hst.kpt hk (by decide), hfl.elim fun fs h => ⟨fs, h.kpt hk (by decide)⟩, hfx.kpt hk (by decide), hcm.kpt hk (by decide), ⟨cs, hS, hl⟩⟩
theorem RC.fl {gp ad : Nat → Nat} {hb h h' : x_H} {F : Nat → Int32} {M : Nat → Nat → Int32} {s : SS} {fs : List En} (hB : Bs gp hb) (hR : RC gp ad hb F M h s) (hk : kp [13] h h') (hS : HEn gp ad 5 13 h' fs) : RC gp ad hb F M h' s := by
  obtain ⟨hF, hb0, hpg, hst, hfl, hfx, hcm, hsb⟩ := hR
  exact ⟨hF, hB.kpt hb0 hk (by decide), hpg.kpt hk (by decide), hst.kpt hk (by decide), ⟨fs, hS⟩, hfx.kpt hk (by decide), hcm.kpt hk (by decide), hsb.kpt hk (by decide)⟩
theorem c_next {gp ad : Nat → Nat} {hb h : x_H} {F : Nat → Int32} {M : Nat → Nat → Int32} {s : SS} {n i : Nat} {post : Int32 → (Nat → Int32) → (Nat → Nat → Int32) → x_H → Prop} (hR : RC gp ad hb F M h s) (hn : s.g 34 = Int32.ofNat n) (hn1 : n ≤ 100) (hi : F 203 = Int32.ofNat i) (hi1 : i ≤ n) (hg : F 204 = 1)
    (h1 : i < n → ∀ F', RC gp ad hb F' M h s → F' 204 = 1 → F' 203 = Int32.ofNat (i + 1) → post (s.a 35 i) F' M h) (h0 : ¬ i < n → ∀ F', RC gp ad hb F' M h s → F' 204 = 0 → post 0 F' M h) : wX4_next post ad F M h := by
  have f202 : F 202 = Int32.ofNat n := by rw [hR.f 34 202, hn]
  refine ⟨fun z => absurd (hg.symm.trans z) (by decide), fun _ => ⟨fun z => ?_, fun z => ?_⟩⟩
  · rw [f202, hi, zi_le (by omega) (by omega)] at z
    exact ⟨Or.inl rfl, fun _ => h0 (by omega) _ (hR.priv 204 0) (by simp [upd]), fun w => absurd rfl w⟩
  · rw [f202, hi, zi_le (by omega) (by omega)] at z
    refine ⟨Or.inr rfl, fun w => absurd w (by decide), fun _ => ?_⟩
    rw [hi, zi_succ, show Int32.ofNat (i + 1) - 1 = Int32.ofNat i from zi_sub (a := i + 1) (b := 1) (by omega), zi_nat (by omega), hR.1.2.2.1]
    exact ⟨zi_in (by omega) (by decide), h1 (by omega) _ ((hR.priv 204 1).priv 203 _) (by simp [upd]) (by simp [upd])⟩
theorem zi_u16 {x : Int32} (h0 : 0 ≤ x) (h1 : x ≤ 255) : (x.toUInt32 % 65536).toInt32 = x := by
  obtain ⟨n, hn, rfl⟩ := zi_nn (m := 255) h0 (by decide) h1
  have : ∀ n : Nat, n < 256 → ((Int32.ofNat n).toUInt32 % 65536).toInt32 = Int32.ofNat n := by decide +kernel
  exact this n (by omega)
theorem zi_asc {x : Int32} (h0 : 0 ≤ x) (h1 : x ≤ 127) : x.toInt8.toInt32 = x := (zi_ch h0 h1).2.2
theorem c_string_end {gp ad : Nat → Nat} {hb h : x_H} {F : Nat → Int32} {M : Nat → Nat → Int32} {s : SS} {p1 : Int32} {cs : List Int32} {mc ms : Nat} {post : Option Nat → (Nat → Int32) → (Nat → Nat → Int32) → x_H → Prop} (hB : Bs gp hb) (hR : RC gp ad hb F M h s) (hS : SB h (ad 201) 16 cs) (hmc : 2 ≤ mc) (hms : 104 ≤ ms) (hp : ∀ q h', RC gp ad hb F M h' s → isStr h' q cs → kp [] h h' → post (some q) F M h') : wX4_string_b104 post ad p1 F M h mc ms := by
  obtain ⟨fs, hc⟩ := hS.cell
  exact ⟨_, _, hc, mc, ms, 0, 0, by omega, by omega, pJ8_toString hS hmc hms fun q h' hq hk => hp q h' (hR.k0 hB hk) hq hk⟩
theorem c_string_loop {gp ad : Nat → Nat} {hb : x_H} {M : Nat → Nat → Int32} {s : SS} {p1 : Int32} {n L : Nat} {post : Option Nat → (Nat → Int32) → (Nat → Nat → Int32) → x_H → Prop} (hB : Bs gp hb) (hI : Inv s) (hn : s.g 34 = Int32.ofNat n) (hn1 : n ≤ 100) (hL : L ≤ 20) : ∀ (d j i : Nat) (F : Nat → Int32) (h : x_H) (cs : List Int32) (mc ms : Nat), j + d = L → RC gp ad hb F M h s → SB h (ad 201) 16 cs → cs.length = j → F 203 = Int32.ofNat i → F 204 = 1 → i ≤ n → d + 2 ≤ mc → 100 * d + 104 ≤ ms →
    (∀ cs2 i', rdChars (s.a 35) n d i = some (cs2, i') → ∀ q F' h', RC gp ad hb F' M h' s → isStr h' q (cs ++ cs2) → F' 203 = Int32.ofNat i' → F' 204 = 1 → kp [16] h h' → post (some q) F' M h') →
    (rdChars (s.a 35) n d i = none → ∀ q F' h', RC gp ad hb F' M h' s → F' 204 = 0 → kp [16] h h' → post (some q) F' M h') →
    wX4_string_b41 post ad p1 (d + 2) F M h mc ms (Int32.ofNat L) (Int32.ofNat j) := by
  intro d
  induction d with
  | zero =>
    intro j i F h cs mc ms hj hR hS hcs hi hg hi1 hmc hms h1 h0
    refine ⟨fun _ => ?_, fun z => absurd ((zi_le (by omega) (by omega)).mpr (by omega)) z⟩
    exact c_string_end hB hR hS (by omega) (by omega) fun q h' hr hq hk => h1 [] i rfl q F h' hr (by simpa using hq) hi hg (hk.wk (by simp))
  | succ d ih =>
    intro j i F h cs mc ms hj hR hS hcs hi hg hi1 hmc hms h1 h0
    refine ⟨fun z => ?_, fun _ => ⟨fun z => absurd (hg.symm.trans z) (by decide), fun _ => ?_⟩⟩
    · rw [zi_le (by omega) (by omega)] at z; omega
    have er : rdChars (s.a 35) n (d + 1) i = if i < n then (if s.a 35 i < 33 ∨ 126 < s.a 35 i then none else (rdChars (s.a 35) n d (i + 1)).map (fun q => (s.a 35 i :: q.1, q.2))) else none := rfl
    have bd := hI.bk i
    -- a bad character: it is added all the same, then the loop ends
    have bad : ∀ (x : Int32) (F1 : Nat → Int32), 0 ≤ x → x ≤ 255 → RC gp ad hb F1 M h s → rdChars (s.a 35) n (d + 1) i = none → wX4_string_b83 post (wX4_string_b41 post ad p1 (d + 2)) ad p1 F1 M h mc ms (Int32.ofNat L) (Int32.ofNat j) x := by
      intro x F1 hx0 hx1 hr e
      obtain ⟨fs, hc⟩ := hS.cell
      refine ⟨Or.inl rfl, _, _, hc, 1, 100, mc - 1, ms - 100, by omega, by omega, ?_⟩
      rw [zi_u16 hx0 hx1]
      refine pJ8_append hS (by omega) (by lia) (by omega) (by omega) fun h2 hS2 hk2 => ?_
      have hr2 := ((hr.priv 204 0).sb hB hk2 hS2 (by simp; omega))
      have fin : wX4_string_b104 post ad p1 (upd F1 204 0) M h2 (mc - 1) (ms - 100) := c_string_end hB hr2 hS2 (by omega) (by omega) fun q h' hr3 hq hk => h0 e q _ h' hr3 (by simp [upd]) (hk2.tr (hk.wk (by simp)))
      exact ⟨fun _ => fin, fun _ => ⟨fun _ => fin, fun z => absurd (by simp [upd]) z⟩⟩
    refine c_next hR hn hn1 hi hi1 hg (fun hlt F1 hr g1 i1 => ⟨fun z => absurd (g1.symm.trans z) (by decide), fun _ => c_outside (fun ho1 ho2 => ⟨fun _ => ?_, fun z => absurd rfl z⟩) fun ho => ⟨fun z => absurd z (by decide), fun _ => ?_⟩⟩) fun hlt F1 hr g1 => ⟨fun _ => ?_, fun z => absurd g1 z⟩
    · obtain ⟨fs, hc⟩ := hS.cell
      have hx0 : 0 ≤ s.a 35 i := bd.1
      have hx1 : s.a 35 i ≤ 126 := by lia
      refine ⟨Or.inr rfl, _, _, hc, 1, 100, mc - 1, ms - 100, by omega, by omega, ?_⟩
      rw [zi_u16 hx0 bd.2]
      refine pJ8_append hS (by omega) (by lia) (by omega) (by omega) fun h2 hS2 hk2 => ?_
      rw [zi_asc hx0 (by lia)] at hS2
      rw [zi_succ]
      rw [if_pos hlt, if_neg (fun q => q.elim (fun w => by lia) (fun w => by lia))] at er
      refine ih (j + 1) (i + 1) _ h2 (cs ++ [s.a 35 i]) _ _ (by omega) ((hr.priv 204 1).sb hB hk2 hS2 (by simp; omega)) hS2 (by simp [hcs]) (by rw [upd_ne (by decide)]; exact i1) (by simp [upd]) (by omega) (by omega) (by omega) (fun cs2 i' e q F' h' hr3 hq e1 e2 hk => ?_) fun e q F' h' hr3 e2 hk => ?_
      · rw [e] at er
        exact h1 _ _ er q F' h' hr3 (by simpa using hq) e1 e2 (hk2.tr hk)
      · rw [e] at er
        exact h0 er q F' h' hr3 e2 (hk2.tr hk)
    · rw [if_pos hlt, if_pos ho] at er
      exact bad _ F1 bd.1 bd.2 hr er
    · rw [if_neg hlt] at er
      exact bad 0 F1 (by decide) (by decide) hr er
theorem c_string {gp ad : Nat → Nat} {hb h : x_H} {F : Nat → Int32} {M : Nat → Nat → Int32} {s : SS} {p1 : Int32} {n i : Nat} {mc ms : Nat} {post : Option Nat → (Nat → Int32) → (Nat → Nat → Int32) → x_H → Prop} (hB : Bs gp hb) (hR : RC gp ad hb F M h s) (hI : Inv s) (hn : s.g 34 = Int32.ofNat n) (hn1 : n ≤ 100) (hi : F 203 = Int32.ofNat i) (hi1 : i ≤ n) (hg : F 204 = 1) (hp1 : 0 ≤ p1)
    (h1 : ∀ cs i', rdStr (s.a 35) n p1 i = some (cs, i') → (cs.length + 3 ≤ mc ∧ 100 * cs.length + 204 ≤ ms) ∧ ∀ q F' h', RC gp ad hb F' M h' s → isStr h' q cs → F' 203 = Int32.ofNat i' → F' 204 = 1 → kp [16] h h' → post (some q) F' M h')
    (h0 : rdStr (s.a 35) n p1 i = none → (30 ≤ mc ∧ 2500 ≤ ms) ∧ ∀ q F' h', RC gp ad hb F' M h' s → F' 204 = 0 → kp [16] h h' → post (some q) F' M h') : wX4_string post ad p1 F M h mc ms := by
  obtain ⟨cs0, hS, hcs0⟩ := hR.2.2.2.2.2.2.2
  have er : rdStr (s.a 35) n p1 i = if i < n then (if s.a 35 i < p1 ∨ 20 < s.a 35 i then none else rdChars (s.a 35) n (s.a 35 i).toNatClampNeg (i + 1)) else none := rfl
  have bd := hI.bk i
  have hbud : 3 ≤ mc ∧ 204 ≤ ms := by
    cases e : rdStr (s.a 35) n p1 i with
    | none => have := (h0 e).1; omega
    | some q => have := (h1 q.1 q.2 e).1; omega
  -- no length read
  have bad : ∀ (x : Int32) (F1 : Nat → Int32) (h2 : x_H), RC gp ad hb F1 M h2 s → SB h2 (ad 201) 16 [] → kp [16] h h2 → rdStr (s.a 35) n p1 i = none → wX4_string_b35 post ad p1 F1 M h2 (mc - 1) (ms - 100) x := by
    intro x F1 h2 hr hS2 hk2 e
    have fin : wX4_string_b104 post ad p1 (upd F1 204 0) M h2 (mc - 1) (ms - 100) := c_string_end hB (hr.priv 204 0) hS2 (by omega) (by omega) fun q h' hr3 hq hk => (h0 e).2 q _ h' hr3 (by simp [upd]) (hk2.tr (hk.wk (by simp)))
    exact ⟨Or.inl rfl, 1, fun _ => fin, fun _ => ⟨fun _ => fin, fun z => absurd (by simp [upd]) z⟩⟩
  obtain ⟨fs, hc⟩ := hS.cell
  refine c_next hR hn hn1 hi hi1 hg (fun hlt F1 hr g1 i1 => ⟨_, _, hc, 1, 100, mc - 1, ms - 100, by omega, by omega, pJ8_setLength0 hS hcs0 (by omega) (by omega) fun h2 hS2 hk2 => ⟨fun z => absurd (g1.symm.trans z) (by decide), fun _ => c_outside (fun ho1 ho2 => ⟨fun _ => ?_, fun z => absurd rfl z⟩) fun ho => ⟨fun z => absurd z (by decide), fun _ => ?_⟩⟩⟩) fun hlt F1 hr g1 => ⟨_, _, hc, 1, 100, mc - 1, ms - 100, by omega, by omega, pJ8_setLength0 hS hcs0 (by omega) (by omega) fun h2 hS2 hk2 => ⟨fun _ => ?_, fun z => absurd g1 z⟩⟩
  · rw [if_pos hlt, if_neg (fun q => q.elim (fun w => by lia) (fun w => by lia))] at er
    obtain ⟨L, hL, eL⟩ := zi_nn (m := 20) (x := s.a 35 i) bd.1 (by decide) (by lia)
    rw [eL, zi_nat (by omega)] at er
    have hlen : L + 3 ≤ mc ∧ 100 * L + 204 ≤ ms := by
      cases e : rdChars (s.a 35) n L (i + 1) with
      | none => rw [e] at er; have := (h0 er).1; omega
      | some q =>
        rw [e] at er
        have := (h1 q.1 q.2 er).1
        have l := (rdChars_ok L (i + 1) (by omega) (cs := q.1) (i' := q.2) e).1
        omega
    refine ⟨Or.inr rfl, L + 2, ?_⟩
    rw [eL]
    refine c_string_loop hB hI hn hn1 hL L 0 (i + 1) _ h2 [] _ _ (by omega) ((hr.priv 204 1).sb hB hk2 hS2 (by simp)) hS2 rfl (by rw [upd_ne (by decide)]; exact i1) (by simp [upd]) (by omega) (by omega) (by omega) (fun cs2 i' e q F' h' hr3 hq e1 e2 hk => ?_) fun e q F' h' hr3 e2 hk => ?_
    · rw [e] at er
      exact (h1 _ _ er).2 q F' h' hr3 (by simpa using hq) e1 e2 (hk2.tr hk)
    · rw [e] at er
      exact (h0 er).2 q F' h' hr3 e2 (hk2.tr hk)
  · rw [if_pos hlt, if_pos ho] at er
    exact bad _ F1 h2 (hr.sb hB hk2 hS2 (by simp)) hS2 hk2 er
  · rw [if_neg hlt] at er
    exact bad 0 F1 h2 (hr.sb hB hk2 hS2 (by simp)) hS2 hk2 er
