/-! the law up to its loop, printed by gen/walk.py -/
set_option maxHeartbeats 4000000
set_option maxRecDepth 100000
theorem x_L0 {D : va_G} {s : State} {N0 : Nat} {h : x_H} {H : Heap} {A B C : x_X} (hR : x_R D s N0 (A ++ (B ++ (C ++ []))) h H) : x_R D s N0 (C ++ (A ++ B)) h H := by
  rw [List.append_nil, ← List.append_assoc] at hR
  exact x_swap hR
def wL_law (gp : Nat → Nat) (b : Nat) (h : x_H) (mc ms : Nat) : Prop :=
  ∃ mc1 ms2 : Nat, 1 + mc1 ≤ mc ∧ 27 + ms2 ≤ ms ∧ ∀ q3 : Nat, h q3 = none → ∃ t4 : Nat, t4 ≠ 1 ∧ ∀ h7 : x_H, h7 = x_hs h q3 t4 (.inr (0, [.null, .null, .null, .null, .null, .null, .null, .int 0, .int 0, .int 0, .int 0, .int 0, .int 0, .int 0, .int 0, .int 0, .int 0, .int 0, .int 0, .int 0, .int 0, .int 0, .int 0, .int 0, .int 0, .null, .int 0])) → ∃ ca8 cb9 mc10 ms11 : Nat, ca8 + mc10 ≤ mc1 ∧ cb9 + ms11 ≤ ms2 ∧ wX1_init (fun ad13 F13 M13 h12 => ad13 1000 = q3 ∧ ∃ mc14 ms15 : Nat, 1 + mc14 ≤ mc10 ∧ 55 + ms15 ≤ ms11 ∧ ∀ q16 : Nat, h12 q16 = none → ∃ t17 : Nat, t17 ≠ 1 ∧ ∀ h20 : x_H, h20 = x_hs h12 q16 t17 (.inr (5, [.int 0, .int 0, .null, .null, .null, .null, .int 0, .int 0, .null, .null, .null, .null, .null, .null, .null, .null, .null, .null, .null, .null, .null, .null, .int 0, .int 0, .null, .int 0, .int 0, .int 0, .int 0, .int 0, .int 0, .int 0, .int 0, .int 0, .int 0, .null, .int 0, .int 0, .int 0, .int 0, .int 0, .int 0, .int 0, .int 0, .int 0, .int 0, .null, .int 0, .int 0, .int 0, .int 0, .int 0, .int 0, .int 0, .null])) → ∃ ca21 cb22 mc23 ms24 : Nat, ca21 + mc23 ≤ mc14 ∧ cb22 + ms24 ≤ ms15 ∧ wX6_init (fun ad26 F26 M26 h25 => ad26 1000 = q16 ∧ ∃ mc27 ms28 : Nat, 1 + mc27 ≤ mc23 ∧ (1 : Int32).toNatClampNeg + ms28 ≤ ms24 ∧ ¬ (1 : Int32) < 0 ∧ (1 : Int32).toNatClampNeg * 8 ≤ 536870912 ∧ ∀ q31 : Nat, h25 q31 = none → ∃ t32 : Nat, t32 ≠ 1 ∧ ∀ h35 : x_H, h35 = x_hs h25 q31 t32 (.inl (.long, ((1 : Int32).toNatClampNeg, .inr (.inl (fun _ => 0))))) → ∃ (o : Nat → Int64) (h2 : x_H), (∀ q ∈ XO q31 o, ∃ t : Nat, t ≠ 1 ∧ h35 q.1 = some (t, q.2)) ∧ h2 = x_dr h35 [q31] ∧ ∃ nn : Nat, wL_law_b23 gp ad13 ad26 q31 b nn F13 M13 F26 M26 o h2 mc27 ms28 0) q16 h20 ca21 cb22) gp q3 h7 ca8 cb9
theorem kL_law {p : Program} {l : Launch} {e : Env} {s : State} {m : MethodId} {args : Array Value} {below : List Frame} {meth : Method} {c : Code} {D : va_G} {N0 : Nat} {gp : Nat → Nat} {b : Nat} {Q : _root_.Jvm.State → Prop} (C : x_C p s m args meth c cL_law 7 (some .boolean) RX0 D N0 gp) (hlt : l.stackTraces = false) (hend : ∀ (H : Heap) (locs : List Loc) (ls : Array Slot) (k n : Nat), va_S (x_A N0) s.heap H locs → k ≤ 601024 → n ≤ 7293034 → W p l e room_1 s m args below meth c H locs k n Q (F0 m 517 ls [.int 1])) {h : x_H} {mc ms : Nat} {H : Heap} {locs : List Loc} {ls : Array Slot} (hR : x_R D s N0 [] h H) (hS : va_S (x_A N0) s.heap H locs) (hk : 0 + mc ≤ 601024) (hn : 0 + ms ≤ 7293034) (hl : lv_has ls 7 [(0, .ref b)]) (hw : wL_law gp b h mc ms) : W p l e room_1 s m args below meth c H locs 0 0 Q (F0 m 0 ls []) := by
  obtain ⟨⟨hx, hb, hml, hown, hts⟩, hr, hlocks, hG, hN⟩ := id C
  unfold wL_law at hw
  obtain ⟨mc1, ms2, hmc1, hms2, hw⟩ := hw
  refine x_newH (ci := 0) (Cn := RX1) (T := TX1) (N := 27) (fs := [.null, .null, .null, .null, .null, .null, .null, .int 0, .int 0, .int 0, .int 0, .int 0, .int 0, .int 0, .int 0, .int 0, .int 0, .int 0, .int 0, .int 0, .int 0, .int 0, .int 0, .int 0, .int 0, .null, .int 0]) C hR hS rfl in_X1 tyX1_ok q115 q116 q85 (by decide +kernel) (x_bud hk hmc1) (x_bud hn hms2) dL_law_0 (fun q3 H hq5 hRn hS => ?_)
  obtain ⟨t4, ht6, hw⟩ := hw q3 hq5
  have hR := hRn t4 ht6
  obtain ⟨h7, eh7⟩ : ∃ z, z = x_hs h q3 t4 (.inr (0, [.null, .null, .null, .null, .null, .null, .null, .int 0, .int 0, .int 0, .int 0, .int 0, .int 0, .int 0, .int 0, .int 0, .int 0, .int 0, .int 0, .int 0, .int 0, .int 0, .int 0, .int 0, .int 0, .null, .int 0])) := ⟨_, rfl⟩
  rw [← eh7] at hR
  replace hw := hw h7 eh7
  have hk := x_budN hk hmc1
  have hn := x_budN hn hms2
  refine lv_dup hx hb dL_law_3 rfl ?_
  obtain ⟨ca8, cb9, mc10, ms11, hca8, hcb9, hw⟩ := hw
  refine x_callv (x_runI (n := 0) (As := []) (b := q3) C hR hS (kX1_init l D N0 gp _ q3 h7 ca8 cb9 _ hw) q119 q85 q117 q118 rfl rfl rfl (by decide +kernel) ⟨Nat.le_of_ble_eq_true rfl, Nat.le_of_ble_eq_true rfl⟩ rfl hl.1 rfl (Nat.le_of_ble_eq_true rfl) dL_law_4 ⟨x_bud hk hca8, x_bud hn hcb9⟩) hS (fun X1 h12 H locs hq hR hS => ?_)
  clear hw
  obtain ⟨ad13, F13, M13, e1, ea13, hw⟩ := hq
  rw [e1] at hR
  have hk := x_budN hk hca8
  have hn := x_budN hn hcb9
  refine lv_astore_n (lv' := [(1, .ref q3), (0, .ref b)]) hx hb dL_law_7 rfl hl (by decide) rfl (fun ls hl => ?_)
  obtain ⟨mc14, ms15, hmc14, hms15, hw⟩ := hw
  refine x_newH (ci := 5) (Cn := RX6) (T := TX6) (N := 55) (fs := [.int 0, .int 0, .null, .null, .null, .null, .int 0, .int 0, .null, .null, .null, .null, .null, .null, .null, .null, .null, .null, .null, .null, .null, .null, .int 0, .int 0, .null, .int 0, .int 0, .int 0, .int 0, .int 0, .int 0, .int 0, .int 0, .int 0, .int 0, .null, .int 0, .int 0, .int 0, .int 0, .int 0, .int 0, .int 0, .int 0, .int 0, .int 0, .null, .int 0, .int 0, .int 0, .int 0, .int 0, .int 0, .int 0, .null]) C hR hS rfl in_X6 tyX6_ok q1157 q1158 q104 (by decide +kernel) (x_bud hk hmc14) (x_bud hn hms15) dL_law_8 (fun q16 H hq18 hRn hS => ?_)
  obtain ⟨t17, ht19, hw⟩ := hw q16 hq18
  have hR := hRn t17 ht19
  obtain ⟨h20, eh20⟩ : ∃ z, z = x_hs h12 q16 t17 (.inr (5, [.int 0, .int 0, .null, .null, .null, .null, .int 0, .int 0, .null, .null, .null, .null, .null, .null, .null, .null, .null, .null, .null, .null, .null, .null, .int 0, .int 0, .null, .int 0, .int 0, .int 0, .int 0, .int 0, .int 0, .int 0, .int 0, .int 0, .int 0, .null, .int 0, .int 0, .int 0, .int 0, .int 0, .int 0, .int 0, .int 0, .int 0, .int 0, .null, .int 0, .int 0, .int 0, .int 0, .int 0, .int 0, .int 0, .null])) := ⟨_, rfl⟩
  rw [← eh20] at hR
  replace hw := hw h20 eh20
  have hk := x_budN hk hmc14
  have hn := x_budN hn hms15
  refine lv_dup hx hb dL_law_11 rfl ?_
  obtain ⟨ca21, cb22, mc23, ms24, hca21, hcb22, hw⟩ := hw
  refine x_callv (x_runI (n := 0) (As := []) (b := q16) C hR hS (kX6_init l D N0 gp _ q16 h20 ca21 cb22 _ hw) q1161 q104 q1159 q1160 rfl rfl rfl (by decide +kernel) ⟨Nat.le_of_ble_eq_true rfl, Nat.le_of_ble_eq_true rfl⟩ rfl hl.1 rfl (Nat.le_of_ble_eq_true rfl) dL_law_12 ⟨x_bud hk hca21, x_bud hn hcb22⟩) hS (fun X1 h25 H locs hq hR hS => ?_)
  clear hw
  obtain ⟨ad26, F26, M26, e1, ea26, hw⟩ := hq
  rw [e1] at hR
  have hk := x_budN hk hca21
  have hn := x_budN hn hcb22
  refine lv_astore_n (lv' := [(2, .ref q16), (1, .ref q3), (0, .ref b)]) hx hb dL_law_15 rfl hl (by decide) rfl (fun ls hl => ?_)
  refine lv_iconst (v := 1) hx hb dL_law_16 (by decide) ?_
  obtain ⟨mc27, ms28, hmc27, hms28, hw⟩ := hw
  obtain ⟨g29, g30, hw⟩ := hw
  refine x_newJ C hR hS q1579 g29 g30 (x_bud hk hmc27) (x_bud hn hms28) dL_law_17 (fun q31 H hq33 hRn hS => ?_)
  obtain ⟨t32, ht34, hw⟩ := hw q31 hq33
  have hR := hRn t32 ht34
  obtain ⟨h35, eh35⟩ : ∃ z, z = x_hs h25 q31 t32 (.inl (.long, ((1 : Int32).toNatClampNeg, .inr (.inl (fun _ => 0))))) := ⟨_, rfl⟩
  rw [← eh35] at hR
  replace hw := hw h35 eh35
  have hk := x_budN hk hmc27
  have hn := x_budN hn hms28
  refine lv_astore_n (lv' := [(3, .ref q31), (2, .ref q16), (1, .ref q3), (0, .ref b)]) hx hb dL_law_19 rfl hl (by decide) rfl (fun ls hl => ?_)
  refine lv_iconst (v := 0) hx hb dL_law_20 (by decide) ?_
  refine lv_istore (lv' := [(4, .int 0), (3, .ref q31), (2, .ref q16), (1, .ref q3), (0, .ref b)]) hx hb dL_law_21 hl (by decide) rfl (fun ls hl => ?_)
  obtain ⟨o, h2, hc, eh, nn, hw⟩ := hw
  have hR := x_promote hR (XO q31 o) hc (by unfold XO; simp)
  replace hR := x_L0 hR
  rw [show (XO q31 o).map (fun q => q.1) = [q31] from rfl, ← eh] at hR
  exact kL_law_b23 C hlt hend nn _ _ _ _ _ _ _ _ _ _ _ _ _ _ hR hS hk hn (by rw [ea13, ea26]; exact (lv_sub hl [4, 3, 2, 1, 0] rfl)) hw
