set_option maxRecDepth 100000
/-! PURE PART 51: the law's loop -/
theorem page_same {s : SS} {a b size c : Int32} (h : (SS.page a b size c s).1 ≠ 0) : (SS.page a b size c s).2.2 = s := by
  unfold SS.page at h ⊢
  split
  · rename_i q
    split
    · rfl
    · split
      · rfl
      · rename_i w1 w2
        rw [if_pos q, if_neg w1, if_neg w2] at h
        exact absurd rfl h
  · rfl
theorem page_code (s : SS) (a b size c : Int32) : (SS.page a b size c s).1 = 0 ∨ (SS.page a b size c s).1 = 1 ∨ (SS.page a b size c s).1 = 2 := by
  unfold SS.page
  split
  · split
    · exact Or.inr (Or.inl rfl)
    · split
      · exact Or.inr (Or.inr rfl)
      · exact Or.inl rfl
  · exact Or.inr (Or.inl rfl)
theorem law_cmp (o : Nat → Int64) (v : Int32) : (if v.toInt64 < (vp_updL o ((0 : Int32).toNatClampNeg) v.toInt64) ((0 : Int32).toNatClampNeg) then (1 : Int32) else if (vp_updL o ((0 : Int32).toNatClampNeg) v.toInt64) ((0 : Int32).toNatClampNeg) = v.toInt64 then 0 else -1) = 0 := by
  have e : (vp_updL o ((0 : Int32).toNatClampNeg) v.toInt64) ((0 : Int32).toNatClampNeg) = v.toInt64 := by simp [vp_updL]
  rw [e, if_neg Int64.lt_irrefl, if_pos rfl]
theorem law_end {n x : Nat} (hn : n ≤ 320) (hx : x ≤ 320) : (nI n - 5 < Int32.ofNat x) ↔ n < x + 5 := by
  show (Int32.ofNat n - 5 < Int32.ofNat x) ↔ n < x + 5
  have zx := zb0 (c := x) (by omega)
  by_cases h : 5 ≤ n
  · rw [show Int32.ofNat n - 5 = Int32.ofNat (n - 5) from zi_sub (a := n) (b := 5) h, zi_lt (by omega) (by omega)]; omega
  · have : Int32.ofNat n - 5 < 0 := by
      rcases (show n = 0 ∨ n = 1 ∨ n = 2 ∨ n = 3 ∨ n = 4 by omega) with rfl | rfl | rfl | rfl | rfl <;> decide
    exact ⟨fun _ => by omega, fun _ => by lia⟩
theorem law_loop {gp ad am : Nat → Nat} {hb : x_H} {ao b n : Nat} {f : Nat → Int32} (hB : Bs gp hb) (hcell : hb b = some (1, .inl (.int, (n, .inl f)))) (hn : n ≤ 320) : ∀ (d x : Nat) (F : Nat → Int32) (M : Nat → Nat → Int32) (G : Nat → Int32) (N : Nat → Nat → Int32) (o : Nat → Int64) (h : x_H) (s : SS) (mc ms : Nat), n < x + 5 * (d + 1) → x ≤ 320 → RC gp ad hb F M h s → RM G N s → InvZ s → 900 * d ≤ mc → 67000 * d ≤ ms → wL_law_b23 gp ad am ao b (d + 1) F M G N o h mc ms (Int32.ofNat x) := by
  intro d
  induction d with
  | zero =>
    intro x F M G N o h s mc ms hd hx hR hM hZ hmc hms
    have hc := hR.2.1 _ _ _ (by simp) hcell
    refine ⟨_, _, _, hc, fun _ => trivial, fun z => absurd ((law_end hn hx).mpr (by omega)) z⟩
  | succ d ih =>
    intro x F M G N o h s mc ms hd hx hR hM hZ hmc hms
    have hc := hR.2.1 _ _ _ (by simp) hcell
    refine ⟨_, _, _, hc, fun _ => trivial, fun z => ?_⟩
    have hxn : x + 5 ≤ n := by
      have : ¬ n < x + 5 := fun w => z ((law_end hn hx).mpr w)
      omega
    obtain ⟨hI, hBB, c, h53, hc12⟩ := id hZ
    have v0 : vp_in (Int32.ofNat x) n := zi_in (by omega) (by omega)
    have e1 : Int32.ofNat x + 1 = Int32.ofNat (x + 1) := zi_add x 1
    have e2 : Int32.ofNat x + 2 = Int32.ofNat (x + 2) := zi_add x 2
    have e3 : Int32.ofNat x + 3 = Int32.ofNat (x + 3) := zi_add x 3
    have e4 : Int32.ofNat x + 4 = Int32.ofNat (x + 4) := zi_add x 4
    have e5 : Int32.ofNat x + 5 = Int32.ofNat (x + 5) := zi_add x 5
    have v1 : vp_in (Int32.ofNat x + 1) n := by rw [e1]; exact zi_in (by omega) (by omega)
    have v2 : vp_in (Int32.ofNat x + 2) n := by rw [e2]; exact zi_in (by omega) (by omega)
    have v3 : vp_in (Int32.ofNat x + 3) n := by rw [e3]; exact zi_in (by omega) (by omega)
    have v4 : vp_in (Int32.ofNat x + 4) n := by rw [e4]; exact zi_in (by omega) (by omega)
    have next : ∀ (F' : Nat → Int32) (M' : Nat → Nat → Int32) (G' : Nat → Int32) (N' : Nat → Nat → Int32) (o' : Nat → Int64) (h' : x_H) (s' : SS) (mc' ms' : Nat), RC gp ad hb F' M' h' s' → RM G' N' s' → InvZ s' → mc - 900 ≤ mc' → ms - 67000 ≤ ms' → wL_law_b510 (wL_law_b23 gp ad am ao b (d + 1)) gp ad am ao b F' M' G' N' o' h' mc' ms' (Int32.ofNat x) := by
      intro F' M' G' N' o' h' s' mc' ms' q1 q2 q3 q4 q5
      unfold wL_law_b510
      rw [e5]
      exact ih (x + 5) F' M' G' N' o' h' s' mc' ms' (by omega) (by omega) q1 q2 q3 (by omega) (by omega)
    have cell : ∀ {F' : Nat → Int32} {M' : Nat → Nat → Int32} {h' : x_H} {s' : SS}, RC gp ad hb F' M' h' s' → h' b = some (1, .inl (.int, (n, .inl f))) := fun hr => hr.2.1 _ _ _ (by simp) hcell
    generalize ho : f (Int32.ofNat x).toNatClampNeg &&& 15 = op
    refine ⟨_, n, f, hc, v0, fun z0 => ?_, fun z0 => ?_, fun z0 => ?_, fun z0 => ?_, fun z0 => ?_, fun z0 => ?_, fun z0 => ?_, fun z0 => ?_, fun z0 => ?_, fun z0 => ?_, fun _ _ _ _ _ _ _ _ _ _ => next F M G N o h s mc ms hR hM hZ (by omega) (by omega)⟩
    · -- page
      refine ⟨_, _, _, hc, v1, _, _, _, hc, v2, _, _, _, hc, v3, _, _, _, hc, v4, 900, 67000, mc - 900, ms - 67000, by omega, by omega, 900, 67000, 0, 0, by omega, by omega, ?_⟩
      refine c_page hB hR hI (by omega) (by omega) (fun hcode h' hr => ?_) (fun hcode h' hr => ⟨Or.inl rfl, fun _ => ⟨fun _ => ?_, fun w => absurd w (by decide)⟩⟩) (fun hcode h' hr => ⟨Or.inr rfl, fun _ => ⟨fun w => absurd w (by decide), fun _ => ?_⟩⟩)
      · have hc' := cell hr
        refine ⟨_, _, _, hc', v1, _, _, _, hc', v2, _, _, _, hc', v3, _, _, _, hc', v4, m_page hM hI fun G' N' hm h0 => ?_⟩
        rw [hcode] at h0
        exact ⟨fun _ => ⟨fun _ => ⟨fun _ => next _ _ _ _ _ _ _ _ _ hr hm (page_ok hZ _ _ _ _) (Nat.le_refl _) (Nat.le_refl _), fun w => absurd (law_cmp _ _) w⟩, fun w => absurd rfl w⟩, fun w => absurd h0 w⟩
      · have hc' := cell hr
        refine ⟨_, _, _, hc', v1, _, _, _, hc', v2, _, _, _, hc', v3, _, _, _, hc', v4, m_page hM hI fun G' N' hm h0 => ?_⟩
        rw [page_same (by rw [hcode]; decide)] at hm
        rw [hcode] at h0
        exact ⟨fun _ => ⟨fun w => absurd w (by decide), fun _ => next _ _ _ _ _ _ _ _ _ hr hm hZ (Nat.le_refl _) (Nat.le_refl _)⟩, fun w => absurd h0 w⟩
      · have hc' := cell hr
        refine ⟨_, _, _, hc', v1, _, _, _, hc', v2, _, _, _, hc', v3, _, _, _, hc', v4, m_page hM hI fun G' N' hm h0 => ?_⟩
        rw [page_same (by rw [hcode]; decide)] at hm
        rw [hcode] at h0
        exact ⟨fun _ => ⟨fun w => absurd w (by decide), fun _ => next _ _ _ _ _ _ _ _ _ hr hm hZ (Nat.le_refl _) (Nat.le_refl _)⟩, fun w => absurd h0 w⟩
    · -- feed
      refine ⟨_, _, _, hc, v1, _, _, _, hc, v2, 900, 67000, mc - 900, ms - 67000, by omega, by omega, c_feed hB hR hZ (by omega) (by omega) fun F' M' h' hr => ?_⟩
      have hc' := cell hr
      refine ⟨_, _, _, hc', v1, _, _, _, hc', v2, m_feed hM hI hBB h53 hc12 fun G' N' hm => ?_⟩
      exact ⟨fun _ => next _ _ _ _ _ _ _ _ _ hr hm (feed_ok hZ _ _) (Nat.le_refl _) (Nat.le_refl _), fun w => absurd rfl w⟩
    · -- restart
      refine ⟨900, 67000, mc - 900, ms - 67000, by omega, by omega, c_restart hB hR (by omega) (by omega) fun F' M' h' hr => ?_⟩
      exact m_restart hM fun G' N' hm => next _ _ _ _ _ _ _ _ _ hr hm (restart_ok hI) (Nat.le_refl _) (Nat.le_refl _)
    · -- waiting
      unfold wX1_waiting
      rw [hR.f 53 26]
      exact m_waiting hM fun G' hm => ⟨fun _ => next _ _ _ _ _ _ _ _ _ hR hm hZ (by omega) (by omega), fun w => absurd rfl w⟩
    · -- out
      refine ⟨_, _, _, hc, v1, 900, 67000, mc - 900, ms - 67000, by omega, by omega, 900, 67000, 0, 0, by omega, by omega, ?_⟩
      refine c_out hR h53 hc12 (by omega) (by omega) (fun k0 k1 => ?_) fun k1 => ⟨rfl, fun _ _ => ?_⟩
      · refine ⟨_, _, _, hc, v1, m_out hM h53 hc12 (fun _ _ G' hm h0 => ?_) fun co => ?_⟩
        · exact ⟨fun _ => ⟨fun _ => ⟨fun _ => next _ _ _ _ _ _ _ _ _ hR hm hZ (Nat.le_refl _) (Nat.le_refl _), fun w => absurd (law_cmp _ _) w⟩, fun w => absurd rfl w⟩, fun w => absurd h0 w⟩
        · rcases co with w | w <;> lia
      · refine ⟨_, _, _, hc, v1, m_out hM h53 hc12 (fun q1 q2 => ?_) fun co G' hm h0 => ?_⟩
        · rcases k1 with w | w <;> lia
        · exact ⟨fun _ => ⟨fun w => absurd w (by decide), fun _ => next _ _ _ _ _ _ _ _ _ hR hm hZ (Nat.le_refl _) (Nat.le_refl _)⟩, fun w => absurd h0 w⟩
    · -- take
      refine ⟨_, _, _, hc, v1, c_take hR h53 hc12 fun F' M' hr => ⟨_, _, _, hc, v1, m_take hM h53 hc12 fun G' N' hm => ?_⟩⟩
      exact next _ _ _ _ _ _ _ _ _ hr hm (take_ok hZ _) (by omega) (by omega)
    · -- away
      unfold wX1_away
      rw [hR.f 48 19]
      exact m_away hM fun G' hm => ⟨fun _ => next _ _ _ _ _ _ _ _ _ hR hm hZ (by omega) (by omega), fun w => absurd rfl w⟩
    · -- about
      refine ⟨_, _, _, hc, v1, c_about hR ⟨_, _, _, hc, v1, m_about hM hI fun G' hm => ?_⟩⟩
      exact ⟨fun _ => next _ _ _ _ _ _ _ _ _ hR hm hZ (by omega) (by omega), fun w => absurd rfl w⟩
    · -- stream
      refine ⟨_, _, _, hc, v1, _, _, _, hc, v2, 900, 67000, mc - 900, ms - 67000, by omega, by omega, 900, 67000, 0, 0, by omega, by omega, ?_⟩
      refine c_stream hR hI (by omega) (by omega) (fun v hv => ?_) fun hv => ⟨rfl, fun _ _ => ?_⟩
      · refine ⟨_, _, _, hc, v1, _, _, _, hc, v2, m_stream hM hI (fun v' hv' G' hm h0 => ?_) fun hv' => ?_⟩
        · rw [hv] at hv'
          cases hv'
          exact ⟨fun _ => ⟨fun _ => ⟨fun _ => next _ _ _ _ _ _ _ _ _ hR hm hZ (Nat.le_refl _) (Nat.le_refl _), fun w => absurd (law_cmp _ _) w⟩, fun w => absurd rfl w⟩, fun w => absurd h0 w⟩
        · rw [hv] at hv'; cases hv'
      · refine ⟨_, _, _, hc, v1, _, _, _, hc, v2, m_stream hM hI (fun v' hv' => ?_) fun hv' G' hm h0 => ?_⟩
        · rw [hv] at hv'; cases hv'
        · exact ⟨fun _ => ⟨fun w => absurd w (by decide), fun _ => next _ _ _ _ _ _ _ _ _ hR hm hZ (Nat.le_refl _) (Nat.le_refl _)⟩, fun w => absurd h0 w⟩
    · -- entry
      refine ⟨_, _, _, hc, v1, _, _, _, hc, v2, _, _, _, hc, v3, 900, 67000, mc - 900, ms - 67000, by omega, by omega, 900, 67000, 0, 0, by omega, by omega, ?_⟩
      refine c_entry hR hI (by omega) (by omega) (fun v hv => ?_) fun hv => ⟨rfl, fun _ _ => ?_⟩
      · refine ⟨_, _, _, hc, v1, _, _, _, hc, v2, _, _, _, hc, v3, m_entry hM hI (fun v' hv' G' hm h0 => ?_) fun hv' => ?_⟩
        · rw [hv] at hv'
          cases hv'
          exact ⟨fun _ => ⟨fun _ => ⟨fun _ => next _ _ _ _ _ _ _ _ _ hR hm hZ (Nat.le_refl _) (Nat.le_refl _), fun w => absurd (law_cmp _ _) w⟩, fun w => absurd rfl w⟩, fun w => absurd h0 w⟩
        · rw [hv] at hv'; cases hv'
      · refine ⟨_, _, _, hc, v1, _, _, _, hc, v2, _, _, _, hc, v3, m_entry hM hI (fun v' hv' => ?_) fun hv' G' hm h0 => ?_⟩
        · rw [hv] at hv'; cases hv'
        · exact ⟨fun _ => ⟨fun w => absurd w (by decide), fun _ => next _ _ _ _ _ _ _ _ _ hR hm hZ (Nat.le_refl _) (Nat.le_refl _)⟩, fun w => absurd h0 w⟩
