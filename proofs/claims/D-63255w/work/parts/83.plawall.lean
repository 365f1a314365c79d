set_option maxRecDepth 100000
/-! PURE PART 57: the law -/
theorem law_all {gp : Nat → Nat} {h : x_H} {b n : Nat} {f : Nat → Int32} (hB : Bs gp h) (hcell : h b = some (1, .inl (.int, (n, .inl f)))) (hn : n ≤ 320) : wL_law gp b h 601024 7293034 := by
  refine ⟨601023, 7293007, by decide, by decide, fun q3 hq3 => ⟨30, by decide, fun h7 e7 => ?_⟩⟩
  have k7 : kp [] h h7 := by rw [e7]; exact kp.new0 hq3
  refine ⟨200, 5000, 600823, 7288007, by decide, by decide, c_ctor hB k7 (by rw [e7]; exact x_hs_self _ _ _ _) (by decide) (by decide) fun ad F M h12 a1000 hr => ⟨a1000, ?_⟩⟩
  refine ⟨600822, 7287952, by decide, by decide, fun q16 hq16 => ⟨36, by decide, fun h20 e20 => ⟨22, 2600, 600800, 7285352, by decide, by decide, ?_⟩⟩⟩
  have k20 : kp [] h12 h20 := by rw [e20]; exact kp.new0 hq16
  refine m_ctor (by rw [e20]; exact x_hs_self _ _ _ _) (by decide) (by decide) fun am G N h25 am1000 k25 hm => ⟨am1000, ?_⟩
  have z1 : (1 : Int32).toNatClampNeg = 1 := rfl
  refine ⟨600799, 7285351, by decide, by decide, by decide, by decide, fun q31 hq31 => ⟨38, by decide, fun h35 e35 => ?_⟩⟩
  have k35 : kp [] h25 h35 := by rw [e35]; exact kp.new0 hq31
  have c35 : h35 q31 = some (38, .inl (.long, (1, .inr (.inl (fun _ => 0))))) := by rw [e35]; exact x_hs_self _ _ _ _
  refine ⟨fun _ => 0, x_dr h35 [q31], fun q hq => ?_, rfl, 65, ?_⟩
  · have hq : q = (q31, .inl (.long, (1, .inr (.inl (fun _ => 0))))) := List.mem_singleton.mp hq
    rw [hq]; exact ⟨38, by decide, c35⟩
  · have kd : kp [38] h35 (x_dr h35 [q31]) := kp.dr fun a ha => by
      rw [List.mem_singleton.mp ha]; exact ⟨38, _, c35, by decide⟩
    have kk : kp [36, 37, 38] h12 (x_dr h35 [q31]) := ((k20.wk (by simp)).tr (k25.wk (by simp))).tr ((k35.wk (by simp)).tr (kd.wk (by simp)))
    obtain ⟨hF, hb0, hpg, hst, hfl, hfx, hcm, hsb⟩ := hr
    have hR : RC gp ad h F M (x_dr h35 [q31]) (SS.restart s0M) := ⟨hF, hB.kpt hb0 kk (by decide), hpg.kpt kk (by decide), hst.kpt kk (by decide), hfl.elim fun fs h => ⟨fs, h.kpt kk (by decide)⟩, hfx.kpt kk (by decide), hcm.kpt kk (by decide), hsb.kpt kk (by decide)⟩
    exact law_loop hB hcell hn 64 0 F M G N _ _ _ _ _ (by omega) (by decide) hR hm s0_ok (by decide) (by decide)
