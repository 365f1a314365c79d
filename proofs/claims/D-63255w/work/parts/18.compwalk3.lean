/-! the walks of PageServer and its parts, printed by gen/walk.py -/
set_option maxHeartbeats 4000000
set_option maxRecDepth 100000
/-- PageServer.more()V -/
abbrev rmX1_more (mc0 ms0 : Nat) : Room := { frames := 11, cells := mc0, slots := ms0, locals := 266 }
section
variable {p : Program} {l : Launch} {e : Env} {s : State} {m : MethodId} {args : Array Value} {below : List Frame} {meth : Method} {c : Code} {D : va_G} {N0 : Nat} {gp : Nat → Nat} {ad : Nat → Nat} {XF : x_X} {mc0 ms0 : Nat}
def wX1_more_b148 (post : (Nat → Int32) → (Nat → Nat → Int32) → x_H → Prop) (postX : String → (Nat → Int32) → (Nat → Nat → Int32) → x_H → Prop) (gp : Nat → Nat) (ad : Nat → Nat)  (F : (Nat → Int32)) (M : (Nat → Nat → Int32)) (h : x_H) (mc : Nat) (ms : Nat) : Prop :=
  post F M h
theorem kX1_more_b148 {post : (Nat → Int32) → (Nat → Nat → Int32) → x_H → Prop} {postX : String → (Nat → Int32) → (Nat → Nat → Int32) → x_H → Prop} (C : x_C p s m args meth c cX1_more 2 none RX1 D N0 gp) (hlt : l.stackTraces = false) (hxt : ∀ x ∈ c.exceptionTable.toList, False) {F : (Nat → Int32)} {M : (Nat → Nat → Int32)} {h : x_H} {mc : Nat} {ms : Nat} {k n : Nat} {H : Heap} {locs : List Loc} {ls : Array Slot} (hR : x_R D s N0 (fixC ad F M ++ XF) h H) (hS : va_S (x_A N0) s.heap H locs) (hk : k + mc ≤ mc0) (hn : n + ms ≤ ms0) (hl : lv_has ls 2 []) (hw : wX1_more_b148 post postX gp ad F M h mc ms) : W p l e (rmX1_more mc0 ms0) s m args below meth c H locs k n (vx_MQ below (x_Qc D N0 (x_Vv (qCv ad XF post))) (x_XC D N0 (qXC ad XF postX)) args s mc0 ms0 (x_A N0)) (F0 m 148 ls []) := by
  obtain ⟨⟨hx, hb, hml, hown, hts⟩, hr, hlocks, hG, hN⟩ := id C
  unfold wX1_more_b148 at hw
  exact vx_ret (x_endv C hR hS ⟨rfl, ⟨_, _, rfl, hw⟩⟩ (x_le hk) (x_le hn) dX1_more_148)
def wX1_more_b88 (post : (Nat → Int32) → (Nat → Nat → Int32) → x_H → Prop) (postX : String → (Nat → Int32) → (Nat → Nat → Int32) → x_H → Prop) (gp : Nat → Nat) (ad : Nat → Nat)  (F : (Nat → Int32)) (M : (Nat → Nat → Int32)) (h : x_H) (mc : Nat) (ms : Nat) : Prop :=
  wX1_has (fun r52 => (r52 = 0 → post F M h) ∧ (¬ r52 = 0 → ∃ ca55 cb56 mc57 ms58 : Nat, ca55 + mc57 ≤ mc ∧ cb56 + ms58 ≤ ms ∧ wX4_read (fun r54 F59 M59 h60 => ∃ ca61 cb62 mc63 ms64 : Nat, ca61 + mc63 ≤ mc57 ∧ cb62 + ms64 ≤ ms58 ∧ wX1_must (fun F65 M65 h66 => wX1_known (fun r67 => (r67 = none → ∃ ca69 cb70 mc71 ms72 : Nat, ca69 + mc71 ≤ mc63 ∧ cb70 + ms72 ≤ ms64 ∧ wX1_request (fun F73 M73 h74 => wX1_more_b148 post postX gp ad F73 M73 h74 mc71 ms72) postX gp ad F65 M65 h66 ca69 cb70) ∧ (∀ a68 : Nat, r67 = some a68 → ∃ ca75 cb76 mc77 ms78 : Nat, ca75 + mc77 ≤ mc63 ∧ cb76 + ms78 ≤ ms64 ∧ wX1_trailers (fun F79 M79 h80 => wX1_more_b148 post postX gp ad F79 M79 h80 mc77 ms78) postX gp ad a68 F65 M65 h66 ca75 cb76)) ad (F65 11) F65 M65 h66) postX ad r54 9 F59 M59 h60 ca61 cb62) gp ad (ad 5) (upd F 16 (-1)) M h ca55 cb56)) ad 4 F M h
theorem kX1_more_b88 {post : (Nat → Int32) → (Nat → Nat → Int32) → x_H → Prop} {postX : String → (Nat → Int32) → (Nat → Nat → Int32) → x_H → Prop} (C : x_C p s m args meth c cX1_more 2 none RX1 D N0 gp) (hlt : l.stackTraces = false) (hxt : ∀ x ∈ c.exceptionTable.toList, False) {F : (Nat → Int32)} {M : (Nat → Nat → Int32)} {h : x_H} {mc : Nat} {ms : Nat} {k n : Nat} {H : Heap} {locs : List Loc} {ls : Array Slot} (hR : x_R D s N0 (fixC ad F M ++ XF) h H) (hS : va_S (x_A N0) s.heap H locs) (hk : k + mc ≤ mc0) (hn : n + ms ≤ ms0) (hl : lv_has ls 2 [(0, .ref (ad 1000))]) (hw : wX1_more_b88 post postX gp ad F M h mc ms) : W p l e (rmX1_more mc0 ms0) s m args below meth c H locs k n (vx_MQ below (x_Qc D N0 (x_Vv (qCv ad XF post))) (x_XC D N0 (qXC ad XF postX)) args s mc0 ms0 (x_A N0)) (F0 m 88 ls []) := by
  obtain ⟨⟨hx, hb, hml, hown, hts⟩, hr, hlocks, hG, hN⟩ := id C
  unfold wX1_more_b88 at hw
  refine lv_aload_n hx hb dX1_more_88 rfl (lv_at hl 0 rfl) ?_
  refine lv_iconst (v := 4) hx hb dX1_more_89 (by decide) ?_
  refine x_calli0 (x_runV (n := 1) (As := [.int 4]) C hR hS (kX1_has l D N0 gp ad XF 4 F M h _ hw) (lw_V q503 q505 qs10 q85 q506) rfl rfl (by decide +kernel) ⟨Nat.le_of_ble_eq_true rfl, Nat.le_of_ble_eq_true rfl⟩ (x_recv C (hR.rdX 0 rfl) rfl) rfl hl.1 rfl (Nat.le_of_ble_eq_true rfl) dX1_more_90 ⟨x_bud0 hk, x_bud0 hn⟩) hS (fun r52 X1 h1 H locs hq hR hS => ?_)
  clear hw
  obtain ⟨e1, e2, hw⟩ := hq
  rw [e1, e2] at hR
  refine lv_if_ne (tgt := 97) hx hb dX1_more_93 (by decide) (fun c53 => ?_) (fun c53 => ?_)
  · replace hw := hw.2 c53
    refine lv_aload_n hx hb dX1_more_97 rfl (lv_at hl 0 rfl) ?_
    refine lv_iconst (v := -1) hx hb dX1_more_98 (by decide) ?_
    refine x_putX (ci := 0) (Cn := RX1) (T := TX1) (N := 27) (v := .int (-1)) C hR hS 0 rfl rfl in_X1 tyX1_ok nmX1 16 (by decide) q409 (fun _ h9 => h9) rfl rfl rfl (Nat.le_of_ble_eq_true rfl) (sC_f16 ..) dX1_more_99 (fun H locs hR hS => ?_)
    refine lv_aload_n hx hb dX1_more_102 rfl (lv_at hl 0 rfl) ?_
    refine lv_aload_n hx hb dX1_more_103 rfl (lv_at hl 0 rfl) ?_
    refine x_get (ci := 0) (Cn := RX1) (T := TX1) (N := 27) (v := .ref (ad 4)) C (hR.rdX 0 rfl) rfl in_X1 4 (by decide) q397 (fun _ h9 => h9) rfl dX1_more_104 ?_
    refine lv_aload_n hx hb dX1_more_107 rfl (lv_at hl 0 rfl) ?_
    refine x_get (ci := 0) (Cn := RX1) (T := TX1) (N := 27) (v := .ref (ad 3)) C (hR.rdX 0 rfl) rfl in_X1 3 (by decide) q396 (fun _ h9 => h9) rfl dX1_more_108 ?_
    refine lv_aload_n hx hb dX1_more_111 rfl (lv_at hl 0 rfl) ?_
    refine x_get (ci := 0) (Cn := RX1) (T := TX1) (N := 27) (v := .ref (ad 5)) C (hR.rdX 0 rfl) rfl in_X1 5 (by decide) q398 (fun _ h9 => h9) rfl dX1_more_112 ?_
    obtain ⟨ca55, cb56, mc57, ms58, hca55, hcb56, hw⟩ := hw
    refine x_calli (x_runV (n := 2) (As := [.ref (ad 3), .ref (ad 5)]) C hR hS (kX4_read l D N0 gp ad XF (ad 5) (upd F 16 (-1)) M h ca55 cb56 _ hw) (lw_V q672 q673 q674 q96 q675) rfl rfl (by decide +kernel) ⟨Nat.le_of_ble_eq_true rfl, Nat.le_of_ble_eq_true rfl⟩ (x_recv C (hR.rdX 2 rfl) rfl) rfl hl.1 rfl (Nat.le_of_ble_eq_true rfl) dX1_more_115 ⟨x_bud hk hca55, x_bud hn hcb56⟩) hS (fun r54 X1 h60 H locs hq hR hS => ?_)
    clear hw
    obtain ⟨F59, M59, e1, hw⟩ := hq
    rw [e1] at hR
    have hk := x_budN hk hca55
    have hn := x_budN hn hcb56
    refine lv_bipush (v := 9) hx hb dX1_more_118 (by decide) ?_
    obtain ⟨ca61, cb62, mc63, ms64, hca61, hcb62, hw⟩ := hw
    refine x_callXv (x_runVX (n := 2) (As := [.int r54, .int 9]) C hR hS (kX1_must l D N0 gp ad XF r54 9 F59 M59 h60 ca61 cb62 _ _ hlt hw) (lw_V q507 q509 qs11 q85 q510) rfl rfl (by decide +kernel) ⟨Nat.le_of_ble_eq_true rfl, Nat.le_of_ble_eq_true rfl⟩ (x_recv C (hR.rdX 0 rfl) rfl) rfl hl.1 rfl (Nat.le_of_ble_eq_true rfl) dX1_more_120 ⟨x_bud hk hca61, x_bud hn hcb62⟩) hS (fun E9 ce9 q9 X9 h9 H9 locs9 hq9 hR9 hS9 hce9 hcv9 hcl9 => by obtain ⟨F9, M9, e9, hq9⟩ := hq9; rw [e9] at hR9; exact x_outX C hxt hR9 hS9 ⟨_, _, rfl, hq9⟩ hce9 hcv9 hcl9 (x_bud hk hca61) (x_bud hn hcb62)) (fun X1 h66 H locs hq hR hS => ?_)
    clear hw
    obtain ⟨F65, M65, e1, hw⟩ := hq
    rw [e1] at hR
    have hk := x_budN hk hca61
    have hn := x_budN hn hcb62
    refine lv_aload_n hx hb dX1_more_123 rfl (lv_at hl 0 rfl) ?_
    refine lv_aload_n hx hb dX1_more_124 rfl (lv_at hl 0 rfl) ?_
    refine x_get (ci := 0) (Cn := RX1) (T := TX1) (N := 27) (v := .int (F65 11)) C (hR.rdX 0 rfl) rfl in_X1 11 (by decide) q404 (fun _ h9 => h9) rfl dX1_more_125 ?_
    refine x_calla0 (x_runV (n := 1) (As := [.int (F65 11)]) C hR hS (kX1_known l D N0 gp ad XF (F65 11) F65 M65 h66 _ hw) (lw_V q594 q596 qs18 q85 q597) rfl rfl (by decide +kernel) ⟨Nat.le_of_ble_eq_true rfl, Nat.le_of_ble_eq_true rfl⟩ (x_recv C (hR.rdX 0 rfl) rfl) rfl hl.1 rfl (Nat.le_of_ble_eq_true rfl) dX1_more_128 ⟨x_bud0 hk, x_bud0 hn⟩) hS (fun r67 X1 h1 H locs hq hR hS => ?_)
    clear hw
    obtain ⟨e1, e2, hw⟩ := hq
    rw [e1, e2] at hR
    refine x_astore_nO (lv' := [(1, va_rf r67), (0, .ref (ad 1000))]) hx hb dX1_more_131 rfl hl (by decide) rfl (fun ls hl => ?_)
    refine x_aload_nO hx hb dX1_more_132 rfl (lv_at hl 0 rfl) ?_
    cases r67 with
    | none =>
      replace hw := hw.1 rfl
      refine lv_ifnullN (tgt := 144) hx hb dX1_more_133 (by decide) ?_
      refine lv_aload_n hx hb dX1_more_144 rfl (lv_at hl 1 rfl) ?_
      obtain ⟨ca69, cb70, mc71, ms72, hca69, hcb70, hw⟩ := hw
      refine x_callXv (x_runVX (n := 0) (As := []) C hR hS (kX1_request l D N0 gp ad XF F65 M65 h66 ca69 cb70 _ _ hlt hw) (lw_V q1009 q1011 qs31 q85 q1012) rfl rfl (by decide +kernel) ⟨Nat.le_of_ble_eq_true rfl, Nat.le_of_ble_eq_true rfl⟩ (x_recv C (hR.rdX 0 rfl) rfl) rfl hl.1 rfl (Nat.le_of_ble_eq_true rfl) dX1_more_145 ⟨x_bud hk hca69, x_bud hn hcb70⟩) hS (fun E9 ce9 q9 X9 h9 H9 locs9 hq9 hR9 hS9 hce9 hcv9 hcl9 => by obtain ⟨F9, M9, e9, hq9⟩ := hq9; rw [e9] at hR9; exact x_outX C hxt hR9 hS9 ⟨_, _, rfl, hq9⟩ hce9 hcv9 hcl9 (x_bud hk hca69) (x_bud hn hcb70)) (fun X1 h74 H locs hq hR hS => ?_)
      clear hw
      obtain ⟨F73, M73, e1, hw⟩ := hq
      rw [e1] at hR
      have hk := x_budN hk hca69
      have hn := x_budN hn hcb70
      exact kX1_more_b148 C hlt hxt hR hS hk hn (lv_sub hl [] rfl) hw
    | some a68 =>
      replace hw := hw.2 a68 rfl
      refine lv_ifnull hx hb dX1_more_133 ?_
      refine lv_aload_n hx hb dX1_more_136 rfl (lv_at hl 1 rfl) ?_
      refine lv_aload_n hx hb dX1_more_137 rfl (lv_at hl 0 rfl) ?_
      obtain ⟨ca75, cb76, mc77, ms78, hca75, hcb76, hw⟩ := hw
      refine x_callXv (x_runVX (n := 1) (As := [.ref a68]) C hR hS (kX1_trailers l D N0 gp ad XF a68 F65 M65 h66 ca75 cb76 _ _ hlt hw) (lw_V q988 q990 qs30 q85 q991) rfl rfl (by decide +kernel) ⟨Nat.le_of_ble_eq_true rfl, Nat.le_of_ble_eq_true rfl⟩ (x_recv C (hR.rdX 0 rfl) rfl) rfl hl.1 rfl (Nat.le_of_ble_eq_true rfl) dX1_more_138 ⟨x_bud hk hca75, x_bud hn hcb76⟩) hS (fun E9 ce9 q9 X9 h9 H9 locs9 hq9 hR9 hS9 hce9 hcv9 hcl9 => by obtain ⟨F9, M9, e9, hq9⟩ := hq9; rw [e9] at hR9; exact x_outX C hxt hR9 hS9 ⟨_, _, rfl, hq9⟩ hce9 hcv9 hcl9 (x_bud hk hca75) (x_bud hn hcb76)) (fun X1 h80 H locs hq hR hS => ?_)
      clear hw
      obtain ⟨F79, M79, e1, hw⟩ := hq
      rw [e1] at hR
      have hk := x_budN hk hca75
      have hn := x_budN hn hcb76
      refine lv_goto (tgt := 148) hx hb dX1_more_141 (by decide) ?_
      exact kX1_more_b148 C hlt hxt hR hS hk hn (lv_sub hl [] rfl) hw
  · replace hw := hw.1 c53
    exact vx_ret (x_endv C hR hS ⟨rfl, ⟨_, _, rfl, hw⟩⟩ (x_le hk) (x_le hn) dX1_more_96)
def tX1_more_b38 (post : (Nat → Int32) → (Nat → Nat → Int32) → x_H → Prop) (postX : String → (Nat → Int32) → (Nat → Nat → Int32) → x_H → Prop) (K38 : (Nat → Int32) → (Nat → Nat → Int32) → x_H → Nat → Nat → Int32 → Prop) (gp : Nat → Nat) (ad : Nat → Nat)  (F : (Nat → Int32)) (M : (Nat → Nat → Int32)) (h : x_H) (mc : Nat) (ms : Nat) (x1 : Int32) : Prop :=
  ((F 14) ≤ x1 → wX1_more_b88 post postX gp ad F M h mc ms) ∧ (¬ (F 14) ≤ x1 → vp_in ((4 : Int32) + x1) 204 ∧ vp_in (F 202) 100 ∧ K38 (upd F 202 ((F 202) + 1)) (va_up M 200 (upd (M 200) (F 202).toNatClampNeg (vp_nar .byte ((M 6) ((4 : Int32) + x1).toNatClampNeg)))) h mc ms (x1 + 1))
def wX1_more_b38 (post : (Nat → Int32) → (Nat → Nat → Int32) → x_H → Prop) (postX : String → (Nat → Int32) → (Nat → Nat → Int32) → x_H → Prop) (gp : Nat → Nat) (ad : Nat → Nat)  : Nat → (Nat → Int32) → (Nat → Nat → Int32) → x_H → Nat → Nat → Int32 → Prop
  | 0 => fun _ _ _ _ _ _ => False
  | n + 1 => fun F M h mc ms x1 => tX1_more_b38 post postX (wX1_more_b38 post postX gp ad n) gp ad F M h mc ms x1
theorem kX1_more_b38 {post : (Nat → Int32) → (Nat → Nat → Int32) → x_H → Prop} {postX : String → (Nat → Int32) → (Nat → Nat → Int32) → x_H → Prop} (C : x_C p s m args meth c cX1_more 2 none RX1 D N0 gp) (hlt : l.stackTraces = false) (hxt : ∀ x ∈ c.exceptionTable.toList, False) : ∀ (nn : Nat) (F : (Nat → Int32)) (M : (Nat → Nat → Int32)) (h : x_H) (mc : Nat) (ms : Nat) (x1 : Int32) (k n : Nat) (H : Heap) (locs : List Loc) (ls : Array Slot), x_R D s N0 (fixC ad F M ++ XF) h H → va_S (x_A N0) s.heap H locs → k + mc ≤ mc0 → n + ms ≤ ms0 → lv_has ls 2 [(0, .ref (ad 1000)), (1, .int x1)] → wX1_more_b38 post postX gp ad nn F M h mc ms x1 → W p l e (rmX1_more mc0 ms0) s m args below meth c H locs k n (vx_MQ below (x_Qc D N0 (x_Vv (qCv ad XF post))) (x_XC D N0 (qXC ad XF postX)) args s mc0 ms0 (x_A N0)) (F0 m 38 ls []) := by
  obtain ⟨⟨hx, hb, hml, hown, hts⟩, hr, hlocks, hG, hN⟩ := id C
  intro nn
  induction nn with
  | zero =>
    intro F M h mc ms x1 k n H locs ls hR hS hk hn hl hw
    exact False.elim hw
  | succ nn ih =>
    intro F M h mc ms x1 k n H locs ls hR hS hk hn hl hw
    have hK38 := ih
    replace hw : tX1_more_b38 post postX (wX1_more_b38 post postX gp ad nn) gp ad F M h mc ms x1 := hw
    unfold tX1_more_b38 at hw
    refine lv_iload_n hx hb dX1_more_38 rfl (lv_at hl 1 rfl) ?_
    refine lv_aload_n hx hb dX1_more_39 rfl (lv_at hl 0 rfl) ?_
    refine x_get (ci := 0) (Cn := RX1) (T := TX1) (N := 27) (v := .int (F 14)) C (hR.rdX 0 rfl) rfl in_X1 14 (by decide) q407 (fun _ h9 => h9) rfl dX1_more_40 ?_
    refine lv_icmp_ge (tgt := 88) hx hb dX1_more_43 (by decide) (fun c49 => ?_) (fun c49 => ?_)
    · replace hw := hw.1 c49
      exact kX1_more_b88 C hlt hxt hR hS hk hn (lv_sub hl [0] rfl) hw
    · replace hw := hw.2 c49
      refine lv_aload_n hx hb dX1_more_46 rfl (lv_at hl 0 rfl) ?_
      refine x_get (ci := 0) (Cn := RX1) (T := TX1) (N := 27) (v := .ref (ad 4)) C (hR.rdX 0 rfl) rfl in_X1 4 (by decide) q397 (fun _ h9 => h9) rfl dX1_more_47 ?_
      refine x_getN (ci := 3) (Cn := RX4) (T := TX4) (N := 5) (v := .ref (ad 200)) C (hR.rdX 2 rfl) rfl in_X4 0 (by decide) (x_nest C q296 rfl) (fun _ h9 => h9) rfl dX1_more_50 ?_
      refine lv_aload_n hx hb dX1_more_53 rfl (lv_at hl 0 rfl) ?_
      refine x_get (ci := 0) (Cn := RX1) (T := TX1) (N := 27) (v := .ref (ad 4)) C (hR.rdX 0 rfl) rfl in_X1 4 (by decide) q397 (fun _ h9 => h9) rfl dX1_more_54 ?_
      refine x_getN (ci := 3) (Cn := RX4) (T := TX4) (N := 5) (v := .int (F 202)) C (hR.rdX 2 rfl) rfl in_X4 2 (by decide) (x_nest C q299 rfl) (fun _ h9 => h9) rfl dX1_more_57 ?_
      refine lv_aload_n hx hb dX1_more_60 rfl (lv_at hl 0 rfl) ?_
      refine x_get (ci := 0) (Cn := RX1) (T := TX1) (N := 27) (v := .ref (ad 6)) C (hR.rdX 0 rfl) rfl in_X1 6 (by decide) q399 (fun _ h9 => h9) rfl dX1_more_61 ?_
      refine lv_iconst (v := 4) hx hb dX1_more_64 (by decide) ?_
      refine lv_iload_n hx hb dX1_more_65 rfl (lv_at hl 1 rfl) ?_
      refine lv_iadd hx hb dX1_more_66 ?_
      obtain ⟨b50, hw⟩ := hw
      refine x_bald (n := 204) (f := (M 6)) C (hR.rdX 3 rfl) b50 dX1_more_67 ?_
      obtain ⟨b51, hw⟩ := hw
      refine x_bastX (n := 100) (f := (M 200)) C hR hS 5 rfl b51 (sC_a200 ..) dX1_more_68 (fun H locs hR hS => ?_)
      refine lv_aload_n hx hb dX1_more_69 rfl (lv_at hl 0 rfl) ?_
      refine x_get (ci := 0) (Cn := RX1) (T := TX1) (N := 27) (v := .ref (ad 4)) C (hR.rdX 0 rfl) rfl in_X1 4 (by decide) q397 (fun _ h9 => h9) rfl dX1_more_70 ?_
      refine lv_dup hx hb dX1_more_73 rfl ?_
      refine x_getN (ci := 3) (Cn := RX4) (T := TX4) (N := 5) (v := .int (F 202)) C (hR.rdX 2 rfl) rfl in_X4 2 (by decide) (x_nest C q299 rfl) (fun _ h9 => h9) rfl dX1_more_74 ?_
      refine lv_iconst (v := 1) hx hb dX1_more_77 (by decide) ?_
      refine lv_iadd hx hb dX1_more_78 ?_
      refine x_putXN (ci := 3) (Cn := RX4) (T := TX4) (N := 5) (v := .int ((F 202) + 1)) C hR hS 2 rfl rfl in_X4 tyX4_ok nmX4 2 (by decide) (x_nest C q299 rfl) (fun _ h9 => h9) rfl rfl rfl (Nat.le_of_ble_eq_true rfl) (sC_f202 ..) dX1_more_79 (fun H locs hR hS => ?_)
      refine lv_iinc (v := x1 + 1) (lv' := [(1, .int (x1 + 1)), (0, .ref (ad 1000))]) hx hb dX1_more_82 hl (k := 1) rfl (x_inc 1 1 (by decide)) (by decide) rfl (fun ls hl => ?_)
      refine lv_goto (tgt := 38) hx hb dX1_more_85 (by decide) ?_
      exact hK38 _ _ _ _ _ _ _ _ _ _ _ hR hS hk hn (lv_sub hl [1, 0] rfl) hw
def wX1_more_b28 (post : (Nat → Int32) → (Nat → Nat → Int32) → x_H → Prop) (postX : String → (Nat → Int32) → (Nat → Nat → Int32) → x_H → Prop) (gp : Nat → Nat) (ad : Nat → Nat)  (F : (Nat → Int32)) (M : (Nat → Nat → Int32)) (h : x_H) (mc : Nat) (ms : Nat) (s0 : Int32) : Prop :=
  ∃ ca42 cb43 mc44 ms45 : Nat, ca42 + mc44 ≤ mc ∧ cb43 + ms45 ≤ ms ∧ wX1_must (fun F46 M46 h47 => ∃ n48 : Nat, wX1_more_b38 post postX gp ad n48 F46 M46 h47 mc44 ms45 (F46 13)) postX ad s0 9 F M h ca42 cb43
theorem kX1_more_b28 {post : (Nat → Int32) → (Nat → Nat → Int32) → x_H → Prop} {postX : String → (Nat → Int32) → (Nat → Nat → Int32) → x_H → Prop} (C : x_C p s m args meth c cX1_more 2 none RX1 D N0 gp) (hlt : l.stackTraces = false) (hxt : ∀ x ∈ c.exceptionTable.toList, False) {F : (Nat → Int32)} {M : (Nat → Nat → Int32)} {h : x_H} {mc : Nat} {ms : Nat} {s0 : Int32} {k n : Nat} {H : Heap} {locs : List Loc} {ls : Array Slot} (hR : x_R D s N0 (fixC ad F M ++ XF) h H) (hS : va_S (x_A N0) s.heap H locs) (hk : k + mc ≤ mc0) (hn : n + ms ≤ ms0) (hl : lv_has ls 2 [(0, .ref (ad 1000))]) (hw : wX1_more_b28 post postX gp ad F M h mc ms s0) : W p l e (rmX1_more mc0 ms0) s m args below meth c H locs k n (vx_MQ below (x_Qc D N0 (x_Vv (qCv ad XF post))) (x_XC D N0 (qXC ad XF postX)) args s mc0 ms0 (x_A N0)) (F0 m 28 ls [.int s0, .ref (ad 1000)]) := by
  obtain ⟨⟨hx, hb, hml, hown, hts⟩, hr, hlocks, hG, hN⟩ := id C
  unfold wX1_more_b28 at hw
  refine lv_bipush (v := 9) hx hb dX1_more_28 (by decide) ?_
  obtain ⟨ca42, cb43, mc44, ms45, hca42, hcb43, hw⟩ := hw
  refine x_callXv (x_runVX (n := 2) (As := [.int s0, .int 9]) C hR hS (kX1_must l D N0 gp ad XF s0 9 F M h ca42 cb43 _ _ hlt hw) (lw_V q507 q509 qs11 q85 q510) rfl rfl (by decide +kernel) ⟨Nat.le_of_ble_eq_true rfl, Nat.le_of_ble_eq_true rfl⟩ (x_recv C (hR.rdX 0 rfl) rfl) rfl hl.1 rfl (Nat.le_of_ble_eq_true rfl) dX1_more_30 ⟨x_bud hk hca42, x_bud hn hcb43⟩) hS (fun E9 ce9 q9 X9 h9 H9 locs9 hq9 hR9 hS9 hce9 hcv9 hcl9 => by obtain ⟨F9, M9, e9, hq9⟩ := hq9; rw [e9] at hR9; exact x_outX C hxt hR9 hS9 ⟨_, _, rfl, hq9⟩ hce9 hcv9 hcl9 (x_bud hk hca42) (x_bud hn hcb43)) (fun X1 h47 H locs hq hR hS => ?_)
  clear hw
  obtain ⟨F46, M46, e1, hw⟩ := hq
  rw [e1] at hR
  have hk := x_budN hk hca42
  have hn := x_budN hn hcb43
  refine lv_aload_n hx hb dX1_more_33 rfl (lv_at hl 0 rfl) ?_
  refine x_get (ci := 0) (Cn := RX1) (T := TX1) (N := 27) (v := .int (F46 13)) C (hR.rdX 0 rfl) rfl in_X1 13 (by decide) q406 (fun _ h9 => h9) rfl dX1_more_34 ?_
  refine lv_istore_n (lv' := [(1, .int (F46 13)), (0, .ref (ad 1000))]) hx hb dX1_more_37 rfl hl (by decide) rfl (fun ls hl => ?_)
  obtain ⟨n48, hw⟩ := hw
  exact kX1_more_b38 C hlt hxt n48 _ _ _ _ _ _ _ _ _ _ _ hR hS hk hn (lv_sub hl [1, 0] rfl) hw
end
def wX1_more (post : (Nat → Int32) → (Nat → Nat → Int32) → x_H → Prop) (postX : String → (Nat → Int32) → (Nat → Nat → Int32) → x_H → Prop) (gp : Nat → Nat) (ad : Nat → Nat)  (F : (Nat → Int32)) (M : (Nat → Nat → Int32)) (h : x_H) (mc : Nat) (ms : Nat) : Prop :=
  ((100 : Int32) < (((F 202) + (F 14)) - (F 13)) → wX1_more_b28 post postX gp ad F M h mc ms 0) ∧ (¬ (100 : Int32) < (((F 202) + (F 14)) - (F 13)) → wX1_more_b28 post postX gp ad F M h mc ms 1)
theorem kX1_more (l : Launch) (D : va_G) (N0 : Nat) (gp : Nat → Nat) (ad : Nat → Nat) (XF : x_X)  (F : (Nat → Int32)) (M : (Nat → Nat → Int32)) (h : x_H) (mc : Nat) (ms : Nat) (post : (Nat → Int32) → (Nat → Nat → Int32) → x_H → Prop) (postX : String → (Nat → Int32) → (Nat → Nat → Int32) → x_H → Prop) (hlt : l.stackTraces = false) (hw : wX1_more post postX gp ad F M h mc ms) : vx_Met l yX1_more (ws_ yX1_more cX1_more 2 none) (rmX1_more mc ms) (x_Pc D N0 gp (fixC ad F M ++ XF) h [.ref (ad 1000)]) (x_Qc D N0 (x_Vv (qCv ad XF post))) (x_XC D N0 (qXC ad XF postX)) mc ms (x_A N0) := by
  refine x_startX (lv := [(0, .ref (ad 1000))]) (by decide) rfl (Nat.le_of_ble_eq_true rfl) rfl ?_
  intro p e s m below meth c C hxt hR ls hl
  have hS : va_S (x_A N0) s.heap s.heap [] := va_S.rf
  obtain ⟨⟨hx, hb, hml, hown, hts⟩, hr, hlocks, hG, hN⟩ := id C
  unfold wX1_more at hw
  have hk : 0 + mc ≤ mc := Nat.le_of_eq (Nat.zero_add _)
  have hn : 0 + ms ≤ ms := Nat.le_of_eq (Nat.zero_add _)
  refine lv_aload_n hx hb dX1_more_0 rfl (lv_at hl 0 rfl) ?_
  refine lv_aload_n hx hb dX1_more_1 rfl (lv_at hl 0 rfl) ?_
  refine x_get (ci := 0) (Cn := RX1) (T := TX1) (N := 27) (v := .ref (ad 4)) C (hR.rdX 0 rfl) rfl in_X1 4 (by decide) q397 (fun _ h9 => h9) rfl dX1_more_2 ?_
  refine x_getN (ci := 3) (Cn := RX4) (T := TX4) (N := 5) (v := .int (F 202)) C (hR.rdX 2 rfl) rfl in_X4 2 (by decide) (x_nest C q299 rfl) (fun _ h9 => h9) rfl dX1_more_5 ?_
  refine lv_aload_n hx hb dX1_more_8 rfl (lv_at hl 0 rfl) ?_
  refine x_get (ci := 0) (Cn := RX1) (T := TX1) (N := 27) (v := .int (F 14)) C (hR.rdX 0 rfl) rfl in_X1 14 (by decide) q407 (fun _ h9 => h9) rfl dX1_more_9 ?_
  refine lv_iadd hx hb dX1_more_12 ?_
  refine lv_aload_n hx hb dX1_more_13 rfl (lv_at hl 0 rfl) ?_
  refine x_get (ci := 0) (Cn := RX1) (T := TX1) (N := 27) (v := .int (F 13)) C (hR.rdX 0 rfl) rfl in_X1 13 (by decide) q406 (fun _ h9 => h9) rfl dX1_more_14 ?_
  refine lv_isub hx hb dX1_more_17 ?_
  refine lv_bipush (v := 100) hx hb dX1_more_18 (by decide) ?_
  refine lv_icmp_gt (tgt := 27) hx hb dX1_more_20 (by decide) (fun c41 => ?_) (fun c41 => ?_)
  · replace hw := hw.1 c41
    refine lv_iconst (v := 0) hx hb dX1_more_27 (by decide) ?_
    exact kX1_more_b28 C hlt hxt hR hS hk hn (lv_sub hl [0] rfl) hw
  · replace hw := hw.2 c41
    refine lv_iconst (v := 1) hx hb dX1_more_23 (by decide) ?_
    refine lv_goto (tgt := 28) hx hb dX1_more_24 (by decide) ?_
    exact kX1_more_b28 C hlt hxt hR hS hk hn (lv_sub hl [0] rfl) hw
/-- PageServer.headers()V -/
abbrev rmX1_headers (mc0 ms0 : Nat) : Room := { frames := 12, cells := mc0, slots := ms0, locals := 287 }
section
variable {p : Program} {l : Launch} {e : Env} {s : State} {m : MethodId} {args : Array Value} {below : List Frame} {meth : Method} {c : Code} {D : va_G} {N0 : Nat} {gp : Nat → Nat} {ad : Nat → Nat} {XF : x_X} {mc0 ms0 : Nat}
def wX1_headers_b61 (post : (Nat → Int32) → (Nat → Nat → Int32) → x_H → Prop) (postX : String → (Nat → Int32) → (Nat → Nat → Int32) → x_H → Prop) (gp : Nat → Nat) (ad : Nat → Nat)  (F : (Nat → Int32)) (M : (Nat → Nat → Int32)) (h : x_H) (mc : Nat) (ms : Nat) (s0 : Int32) : Prop :=
  ∃ ca53 cb54 mc55 ms56 : Nat, ca53 + mc55 ≤ mc ∧ cb54 + ms56 ≤ ms ∧ wX1_must (fun F57 M57 h58 => wX1_has (fun r59 => x_bit r59 ∧ ∃ ca61 cb62 mc63 ms64 : Nat, ca61 + mc63 ≤ mc55 ∧ cb62 + ms64 ≤ ms56 ∧ wX1_more (fun F65 M65 h66 => post F65 M65 h66) postX gp ad (upd (upd (upd F57 202 0) 16 (F57 11)) 17 r59) M57 h58 ca61 cb62) ad 1 (upd (upd F57 202 0) 16 (F57 11)) M57 h58) postX ad s0 5 F M h ca53 cb54
theorem kX1_headers_b61 {post : (Nat → Int32) → (Nat → Nat → Int32) → x_H → Prop} {postX : String → (Nat → Int32) → (Nat → Nat → Int32) → x_H → Prop} (C : x_C p s m args meth c cX1_headers 2 none RX1 D N0 gp) (hlt : l.stackTraces = false) (hxt : ∀ x ∈ c.exceptionTable.toList, False) {F : (Nat → Int32)} {M : (Nat → Nat → Int32)} {h : x_H} {mc : Nat} {ms : Nat} {s0 : Int32} {k n : Nat} {H : Heap} {locs : List Loc} {ls : Array Slot} (hR : x_R D s N0 (fixC ad F M ++ XF) h H) (hS : va_S (x_A N0) s.heap H locs) (hk : k + mc ≤ mc0) (hn : n + ms ≤ ms0) (hl : lv_has ls 2 [(0, .ref (ad 1000))]) (hw : wX1_headers_b61 post postX gp ad F M h mc ms s0) : W p l e (rmX1_headers mc0 ms0) s m args below meth c H locs k n (vx_MQ below (x_Qc D N0 (x_Vv (qCv ad XF post))) (x_XC D N0 (qXC ad XF postX)) args s mc0 ms0 (x_A N0)) (F0 m 61 ls [.int s0, .ref (ad 1000)]) := by
  obtain ⟨⟨hx, hb, hml, hown, hts⟩, hr, hlocks, hG, hN⟩ := id C
  unfold wX1_headers_b61 at hw
  refine lv_iconst (v := 5) hx hb dX1_headers_61 (by decide) ?_
  obtain ⟨ca53, cb54, mc55, ms56, hca53, hcb54, hw⟩ := hw
  refine x_callXv (x_runVX (n := 2) (As := [.int s0, .int 5]) C hR hS (kX1_must l D N0 gp ad XF s0 5 F M h ca53 cb54 _ _ hlt hw) (lw_V q507 q509 qs11 q85 q510) rfl rfl (by decide +kernel) ⟨Nat.le_of_ble_eq_true rfl, Nat.le_of_ble_eq_true rfl⟩ (x_recv C (hR.rdX 0 rfl) rfl) rfl hl.1 rfl (Nat.le_of_ble_eq_true rfl) dX1_headers_62 ⟨x_bud hk hca53, x_bud hn hcb54⟩) hS (fun E9 ce9 q9 X9 h9 H9 locs9 hq9 hR9 hS9 hce9 hcv9 hcl9 => by obtain ⟨F9, M9, e9, hq9⟩ := hq9; rw [e9] at hR9; exact x_outX C hxt hR9 hS9 ⟨_, _, rfl, hq9⟩ hce9 hcv9 hcl9 (x_bud hk hca53) (x_bud hn hcb54)) (fun X1 h58 H locs hq hR hS => ?_)
  clear hw
  obtain ⟨F57, M57, e1, hw⟩ := hq
  rw [e1] at hR
  have hk := x_budN hk hca53
  have hn := x_budN hn hcb54
  refine lv_aload_n hx hb dX1_headers_65 rfl (lv_at hl 0 rfl) ?_
  refine x_get (ci := 0) (Cn := RX1) (T := TX1) (N := 27) (v := .ref (ad 4)) C (hR.rdX 0 rfl) rfl in_X1 4 (by decide) q397 (fun _ h9 => h9) rfl dX1_headers_66 ?_
  refine lv_iconst (v := 0) hx hb dX1_headers_69 (by decide) ?_
  refine x_putXN (ci := 3) (Cn := RX4) (T := TX4) (N := 5) (v := .int 0) C hR hS 2 rfl rfl in_X4 tyX4_ok nmX4 2 (by decide) (x_nest C q299 rfl) (fun _ h9 => h9) rfl rfl rfl (Nat.le_of_ble_eq_true rfl) (sC_f202 ..) dX1_headers_70 (fun H locs hR hS => ?_)
  refine lv_aload_n hx hb dX1_headers_73 rfl (lv_at hl 0 rfl) ?_
  refine lv_aload_n hx hb dX1_headers_74 rfl (lv_at hl 0 rfl) ?_
  refine x_get (ci := 0) (Cn := RX1) (T := TX1) (N := 27) (v := .int (F57 11)) C (hR.rdX 0 rfl) rfl in_X1 11 (by decide) q404 (fun _ h9 => h9) rfl dX1_headers_75 ?_
  refine x_putX (ci := 0) (Cn := RX1) (T := TX1) (N := 27) (v := .int (F57 11)) C hR hS 0 rfl rfl in_X1 tyX1_ok nmX1 16 (by decide) q409 (fun _ h9 => h9) rfl rfl rfl (Nat.le_of_ble_eq_true rfl) (sC_f16 ..) dX1_headers_78 (fun H locs hR hS => ?_)
  refine lv_aload_n hx hb dX1_headers_81 rfl (lv_at hl 0 rfl) ?_
  refine lv_aload_n hx hb dX1_headers_82 rfl (lv_at hl 0 rfl) ?_
  refine lv_iconst (v := 1) hx hb dX1_headers_83 (by decide) ?_
  refine x_calli0 (x_runV (n := 1) (As := [.int 1]) C hR hS (kX1_has l D N0 gp ad XF 1 (upd (upd F57 202 0) 16 (F57 11)) M57 h58 _ hw) (lw_V q503 q505 qs10 q85 q506) rfl rfl (by decide +kernel) ⟨Nat.le_of_ble_eq_true rfl, Nat.le_of_ble_eq_true rfl⟩ (x_recv C (hR.rdX 0 rfl) rfl) rfl hl.1 rfl (Nat.le_of_ble_eq_true rfl) dX1_headers_84 ⟨x_bud0 hk, x_bud0 hn⟩) hS (fun r59 X1 h1 H locs hq hR hS => ?_)
  clear hw
  obtain ⟨e1, e2, hw⟩ := hq
  rw [e1, e2] at hR
  obtain ⟨z60, hw⟩ := hw
  refine x_putX (ci := 0) (Cn := RX1) (T := TX1) (N := 27) (v := .int r59) C hR hS 0 rfl rfl in_X1 tyX1_ok nmX1 17 (by decide) q410 (fun _ h9 => h9) rfl (x_bitN z60) (x_bitF z60) (Nat.le_of_ble_eq_true rfl) (sC_f17 ..) dX1_headers_87 (fun H locs hR hS => ?_)
  refine lv_aload_n hx hb dX1_headers_90 rfl (lv_at hl 0 rfl) ?_
  obtain ⟨ca61, cb62, mc63, ms64, hca61, hcb62, hw⟩ := hw
  refine x_callXv (x_runVX (n := 0) (As := []) C hR hS (kX1_more l D N0 gp ad XF (upd (upd (upd F57 202 0) 16 (F57 11)) 17 r59) M57 h58 ca61 cb62 _ _ hlt hw) (lw_V q668 q670 qs25 q85 q671) rfl rfl (by decide +kernel) ⟨Nat.le_of_ble_eq_true rfl, Nat.le_of_ble_eq_true rfl⟩ (x_recv C (hR.rdX 0 rfl) rfl) rfl hl.1 rfl (Nat.le_of_ble_eq_true rfl) dX1_headers_91 ⟨x_bud hk hca61, x_bud hn hcb62⟩) hS (fun E9 ce9 q9 X9 h9 H9 locs9 hq9 hR9 hS9 hce9 hcv9 hcl9 => by obtain ⟨F9, M9, e9, hq9⟩ := hq9; rw [e9] at hR9; exact x_outX C hxt hR9 hS9 ⟨_, _, rfl, hq9⟩ hce9 hcv9 hcl9 (x_bud hk hca61) (x_bud hn hcb62)) (fun X1 h66 H locs hq hR hS => ?_)
  clear hw
  obtain ⟨F65, M65, e1, hw⟩ := hq
  rw [e1] at hR
  have hk := x_budN hk hca61
  have hn := x_budN hn hcb62
  exact vx_ret (x_endv C hR hS ⟨rfl, ⟨_, _, rfl, hw⟩⟩ (x_le hk) (x_le hn) dX1_headers_94)
def wX1_headers_b56 (post : (Nat → Int32) → (Nat → Nat → Int32) → x_H → Prop) (postX : String → (Nat → Int32) → (Nat → Nat → Int32) → x_H → Prop) (gp : Nat → Nat) (ad : Nat → Nat)  (F : (Nat → Int32)) (M : (Nat → Nat → Int32)) (h : x_H) (mc : Nat) (ms : Nat) : Prop :=
  wX1_headers_b61 post postX gp ad F M h mc ms 1
theorem kX1_headers_b56 {post : (Nat → Int32) → (Nat → Nat → Int32) → x_H → Prop} {postX : String → (Nat → Int32) → (Nat → Nat → Int32) → x_H → Prop} (C : x_C p s m args meth c cX1_headers 2 none RX1 D N0 gp) (hlt : l.stackTraces = false) (hxt : ∀ x ∈ c.exceptionTable.toList, False) {F : (Nat → Int32)} {M : (Nat → Nat → Int32)} {h : x_H} {mc : Nat} {ms : Nat} {k n : Nat} {H : Heap} {locs : List Loc} {ls : Array Slot} (hR : x_R D s N0 (fixC ad F M ++ XF) h H) (hS : va_S (x_A N0) s.heap H locs) (hk : k + mc ≤ mc0) (hn : n + ms ≤ ms0) (hl : lv_has ls 2 [(0, .ref (ad 1000))]) (hw : wX1_headers_b56 post postX gp ad F M h mc ms) : W p l e (rmX1_headers mc0 ms0) s m args below meth c H locs k n (vx_MQ below (x_Qc D N0 (x_Vv (qCv ad XF post))) (x_XC D N0 (qXC ad XF postX)) args s mc0 ms0 (x_A N0)) (F0 m 56 ls [.ref (ad 1000)]) := by
  obtain ⟨⟨hx, hb, hml, hown, hts⟩, hr, hlocks, hG, hN⟩ := id C
  unfold wX1_headers_b56 at hw
  refine lv_iconst (v := 1) hx hb dX1_headers_56 (by decide) ?_
  refine lv_goto (tgt := 61) hx hb dX1_headers_57 (by decide) ?_
  exact kX1_headers_b61 C hlt hxt hR hS hk hn (lv_sub hl [0] rfl) hw
def wX1_headers_b60 (post : (Nat → Int32) → (Nat → Nat → Int32) → x_H → Prop) (postX : String → (Nat → Int32) → (Nat → Nat → Int32) → x_H → Prop) (gp : Nat → Nat) (ad : Nat → Nat)  (F : (Nat → Int32)) (M : (Nat → Nat → Int32)) (h : x_H) (mc : Nat) (ms : Nat) : Prop :=
  wX1_headers_b61 post postX gp ad F M h mc ms 0
theorem kX1_headers_b60 {post : (Nat → Int32) → (Nat → Nat → Int32) → x_H → Prop} {postX : String → (Nat → Int32) → (Nat → Nat → Int32) → x_H → Prop} (C : x_C p s m args meth c cX1_headers 2 none RX1 D N0 gp) (hlt : l.stackTraces = false) (hxt : ∀ x ∈ c.exceptionTable.toList, False) {F : (Nat → Int32)} {M : (Nat → Nat → Int32)} {h : x_H} {mc : Nat} {ms : Nat} {k n : Nat} {H : Heap} {locs : List Loc} {ls : Array Slot} (hR : x_R D s N0 (fixC ad F M ++ XF) h H) (hS : va_S (x_A N0) s.heap H locs) (hk : k + mc ≤ mc0) (hn : n + ms ≤ ms0) (hl : lv_has ls 2 [(0, .ref (ad 1000))]) (hw : wX1_headers_b60 post postX gp ad F M h mc ms) : W p l e (rmX1_headers mc0 ms0) s m args below meth c H locs k n (vx_MQ below (x_Qc D N0 (x_Vv (qCv ad XF post))) (x_XC D N0 (qXC ad XF postX)) args s mc0 ms0 (x_A N0)) (F0 m 60 ls [.ref (ad 1000)]) := by
  obtain ⟨⟨hx, hb, hml, hown, hts⟩, hr, hlocks, hG, hN⟩ := id C
  unfold wX1_headers_b60 at hw
  refine lv_iconst (v := 0) hx hb dX1_headers_60 (by decide) ?_
  exact kX1_headers_b61 C hlt hxt hR hS hk hn (lv_sub hl [0] rfl) hw
def wX1_headers_b16 (post : (Nat → Int32) → (Nat → Nat → Int32) → x_H → Prop) (postX : String → (Nat → Int32) → (Nat → Nat → Int32) → x_H → Prop) (gp : Nat → Nat) (ad : Nat → Nat)  (F : (Nat → Int32)) (M : (Nat → Nat → Int32)) (h : x_H) (mc : Nat) (ms : Nat) (s0 : Int32) : Prop :=
  ∃ ca35 cb36 mc37 ms38 : Nat, ca35 + mc37 ≤ mc ∧ cb36 + ms38 ≤ ms ∧ wX1_must (fun F39 M39 h40 => ∃ ca41 cb42 mc43 ms44 : Nat, ca41 + mc43 ≤ mc37 ∧ cb42 + ms44 ≤ ms38 ∧ wX1_unpad (fun F45 M45 h46 => wX1_known (fun r47 => ((F45 18) < (F45 11) → wX1_headers_b56 post postX gp ad F45 M45 h46 mc43 ms44) ∧ (¬ (F45 18) < (F45 11) → (r47 = none → wX1_headers_b60 post postX gp ad F45 M45 h46 mc43 ms44) ∧ (∀ a49 : Nat, r47 = some a49 → ∃ y51 : Int32, x_f h46 a49 4 6 (.int y51) ∧ (y51 = 0 → wX1_headers_b56 post postX gp ad F45 M45 h46 mc43 ms44) ∧ (¬ y51 = 0 → wX1_headers_b60 post postX gp ad F45 M45 h46 mc43 ms44)))) ad (F45 11) F45 M45 h46) postX ad F39 M39 h40 ca41 cb42) postX ad s0 1 F M h ca35 cb36
theorem kX1_headers_b16 {post : (Nat → Int32) → (Nat → Nat → Int32) → x_H → Prop} {postX : String → (Nat → Int32) → (Nat → Nat → Int32) → x_H → Prop} (C : x_C p s m args meth c cX1_headers 2 none RX1 D N0 gp) (hlt : l.stackTraces = false) (hxt : ∀ x ∈ c.exceptionTable.toList, False) {F : (Nat → Int32)} {M : (Nat → Nat → Int32)} {h : x_H} {mc : Nat} {ms : Nat} {s0 : Int32} {k n : Nat} {H : Heap} {locs : List Loc} {ls : Array Slot} (hR : x_R D s N0 (fixC ad F M ++ XF) h H) (hS : va_S (x_A N0) s.heap H locs) (hk : k + mc ≤ mc0) (hn : n + ms ≤ ms0) (hl : lv_has ls 2 [(0, .ref (ad 1000))]) (hw : wX1_headers_b16 post postX gp ad F M h mc ms s0) : W p l e (rmX1_headers mc0 ms0) s m args below meth c H locs k n (vx_MQ below (x_Qc D N0 (x_Vv (qCv ad XF post))) (x_XC D N0 (qXC ad XF postX)) args s mc0 ms0 (x_A N0)) (F0 m 16 ls [.int s0, .ref (ad 1000)]) := by
  obtain ⟨⟨hx, hb, hml, hown, hts⟩, hr, hlocks, hG, hN⟩ := id C
  unfold wX1_headers_b16 at hw
  refine lv_iconst (v := 1) hx hb dX1_headers_16 (by decide) ?_
  obtain ⟨ca35, cb36, mc37, ms38, hca35, hcb36, hw⟩ := hw
  refine x_callXv (x_runVX (n := 2) (As := [.int s0, .int 1]) C hR hS (kX1_must l D N0 gp ad XF s0 1 F M h ca35 cb36 _ _ hlt hw) (lw_V q507 q509 qs11 q85 q510) rfl rfl (by decide +kernel) ⟨Nat.le_of_ble_eq_true rfl, Nat.le_of_ble_eq_true rfl⟩ (x_recv C (hR.rdX 0 rfl) rfl) rfl hl.1 rfl (Nat.le_of_ble_eq_true rfl) dX1_headers_17 ⟨x_bud hk hca35, x_bud hn hcb36⟩) hS (fun E9 ce9 q9 X9 h9 H9 locs9 hq9 hR9 hS9 hce9 hcv9 hcl9 => by obtain ⟨F9, M9, e9, hq9⟩ := hq9; rw [e9] at hR9; exact x_outX C hxt hR9 hS9 ⟨_, _, rfl, hq9⟩ hce9 hcv9 hcl9 (x_bud hk hca35) (x_bud hn hcb36)) (fun X1 h40 H locs hq hR hS => ?_)
  clear hw
  obtain ⟨F39, M39, e1, hw⟩ := hq
  rw [e1] at hR
  have hk := x_budN hk hca35
  have hn := x_budN hn hcb36
  refine lv_aload_n hx hb dX1_headers_20 rfl (lv_at hl 0 rfl) ?_
  obtain ⟨ca41, cb42, mc43, ms44, hca41, hcb42, hw⟩ := hw
  refine x_callXv (x_runVX (n := 0) (As := []) C hR hS (kX1_unpad l D N0 gp ad XF F39 M39 h40 ca41 cb42 _ _ hlt hw) (lw_V q582 q584 qs15 q85 q585) rfl rfl (by decide +kernel) ⟨Nat.le_of_ble_eq_true rfl, Nat.le_of_ble_eq_true rfl⟩ (x_recv C (hR.rdX 0 rfl) rfl) rfl hl.1 rfl (Nat.le_of_ble_eq_true rfl) dX1_headers_21 ⟨x_bud hk hca41, x_bud hn hcb42⟩) hS (fun E9 ce9 q9 X9 h9 H9 locs9 hq9 hR9 hS9 hce9 hcv9 hcl9 => by obtain ⟨F9, M9, e9, hq9⟩ := hq9; rw [e9] at hR9; exact x_outX C hxt hR9 hS9 ⟨_, _, rfl, hq9⟩ hce9 hcv9 hcl9 (x_bud hk hca41) (x_bud hn hcb42)) (fun X1 h46 H locs hq hR hS => ?_)
  clear hw
  obtain ⟨F45, M45, e1, hw⟩ := hq
  rw [e1] at hR
  have hk := x_budN hk hca41
  have hn := x_budN hn hcb42
  refine lv_aload_n hx hb dX1_headers_24 rfl (lv_at hl 0 rfl) ?_
  refine lv_aload_n hx hb dX1_headers_25 rfl (lv_at hl 0 rfl) ?_
  refine x_get (ci := 0) (Cn := RX1) (T := TX1) (N := 27) (v := .int (F45 11)) C (hR.rdX 0 rfl) rfl in_X1 11 (by decide) q404 (fun _ h9 => h9) rfl dX1_headers_26 ?_
  refine x_calla0 (x_runV (n := 1) (As := [.int (F45 11)]) C hR hS (kX1_known l D N0 gp ad XF (F45 11) F45 M45 h46 _ hw) (lw_V q594 q596 qs18 q85 q597) rfl rfl (by decide +kernel) ⟨Nat.le_of_ble_eq_true rfl, Nat.le_of_ble_eq_true rfl⟩ (x_recv C (hR.rdX 0 rfl) rfl) rfl hl.1 rfl (Nat.le_of_ble_eq_true rfl) dX1_headers_29 ⟨x_bud0 hk, x_bud0 hn⟩) hS (fun r47 X1 h1 H locs hq hR hS => ?_)
  clear hw
  obtain ⟨e1, e2, hw⟩ := hq
  rw [e1, e2] at hR
  refine x_astore_nO (lv' := [(1, va_rf r47), (0, .ref (ad 1000))]) hx hb dX1_headers_32 rfl hl (by decide) rfl (fun ls hl => ?_)
  refine lv_aload_n hx hb dX1_headers_33 rfl (lv_at hl 1 rfl) ?_
  refine lv_aload_n hx hb dX1_headers_34 rfl (lv_at hl 1 rfl) ?_
  refine x_get (ci := 0) (Cn := RX1) (T := TX1) (N := 27) (v := .int (F45 11)) C (hR.rdX 0 rfl) rfl in_X1 11 (by decide) q404 (fun _ h9 => h9) rfl dX1_headers_35 ?_
  refine lv_aload_n hx hb dX1_headers_38 rfl (lv_at hl 1 rfl) ?_
  refine x_get (ci := 0) (Cn := RX1) (T := TX1) (N := 27) (v := .int (F45 18)) C (hR.rdX 0 rfl) rfl in_X1 18 (by decide) q411 (fun _ h9 => h9) rfl dX1_headers_39 ?_
  refine lv_icmp_gt (tgt := 56) hx hb dX1_headers_42 (by decide) (fun c48 => ?_) (fun c48 => ?_)
  · replace hw := hw.1 c48
    exact kX1_headers_b56 C hlt hxt hR hS hk hn (lv_sub hl [1] rfl) hw
  · replace hw := hw.2 c48
    refine x_aload_nO hx hb dX1_headers_45 rfl (lv_at hl 0 rfl) ?_
    cases r47 with
    | none =>
      replace hw := hw.1 rfl
      refine lv_ifnullN (tgt := 60) hx hb dX1_headers_46 (by decide) ?_
      exact kX1_headers_b60 C hlt hxt hR hS hk hn (lv_sub hl [1] rfl) hw
    | some a49 =>
      replace hw := hw.2 a49 rfl
      refine lv_ifnull hx hb dX1_headers_46 ?_
      refine lv_aload_n hx hb dX1_headers_49 rfl (lv_at hl 0 rfl) ?_
      obtain ⟨y51, hf50, hw⟩ := hw
      refine x_getHN (ci := 4) (Cn := RX5) (T := TX5) (N := 9) (k := 6) C hR hf50 rfl in_X5 (by decide) (x_nest C q331 rfl) (fun _ h9 => h9) dX1_headers_50 ?_
      refine lv_if_ne (tgt := 60) hx hb dX1_headers_53 (by decide) (fun c52 => ?_) (fun c52 => ?_)
      · replace hw := hw.2 c52
        exact kX1_headers_b60 C hlt hxt hR hS hk hn (lv_sub hl [1] rfl) hw
      · replace hw := hw.1 c52
        exact kX1_headers_b56 C hlt hxt hR hS hk hn (lv_sub hl [1] rfl) hw
end
def wX1_headers (post : (Nat → Int32) → (Nat → Nat → Int32) → x_H → Prop) (postX : String → (Nat → Int32) → (Nat → Nat → Int32) → x_H → Prop) (gp : Nat → Nat) (ad : Nat → Nat)  (F : (Nat → Int32)) (M : (Nat → Nat → Int32)) (h : x_H) (mc : Nat) (ms : Nat) : Prop :=
  (((F 11) - (F 11) / 2 * 2) = 1 → wX1_headers_b16 post postX gp ad F M h mc ms 1) ∧ (¬ ((F 11) - (F 11) / 2 * 2) = 1 → wX1_headers_b16 post postX gp ad F M h mc ms 0)
theorem kX1_headers (l : Launch) (D : va_G) (N0 : Nat) (gp : Nat → Nat) (ad : Nat → Nat) (XF : x_X)  (F : (Nat → Int32)) (M : (Nat → Nat → Int32)) (h : x_H) (mc : Nat) (ms : Nat) (post : (Nat → Int32) → (Nat → Nat → Int32) → x_H → Prop) (postX : String → (Nat → Int32) → (Nat → Nat → Int32) → x_H → Prop) (hlt : l.stackTraces = false) (hw : wX1_headers post postX gp ad F M h mc ms) : vx_Met l yX1_headers (ws_ yX1_headers cX1_headers 2 none) (rmX1_headers mc ms) (x_Pc D N0 gp (fixC ad F M ++ XF) h [.ref (ad 1000)]) (x_Qc D N0 (x_Vv (qCv ad XF post))) (x_XC D N0 (qXC ad XF postX)) mc ms (x_A N0) := by
  refine x_startX (lv := [(0, .ref (ad 1000))]) (by decide) rfl (Nat.le_of_ble_eq_true rfl) rfl ?_
  intro p e s m below meth c C hxt hR ls hl
  have hS : va_S (x_A N0) s.heap s.heap [] := va_S.rf
  obtain ⟨⟨hx, hb, hml, hown, hts⟩, hr, hlocks, hG, hN⟩ := id C
  unfold wX1_headers at hw
  have hk : 0 + mc ≤ mc := Nat.le_of_eq (Nat.zero_add _)
  have hn : 0 + ms ≤ ms := Nat.le_of_eq (Nat.zero_add _)
  refine lv_aload_n hx hb dX1_headers_0 rfl (lv_at hl 0 rfl) ?_
  refine lv_aload_n hx hb dX1_headers_1 rfl (lv_at hl 0 rfl) ?_
  refine x_get (ci := 0) (Cn := RX1) (T := TX1) (N := 27) (v := .int (F 11)) C (hR.rdX 0 rfl) rfl in_X1 11 (by decide) q404 (fun _ h9 => h9) rfl dX1_headers_2 ?_
  refine lv_iconst (v := 2) hx hb dX1_headers_5 (by decide) ?_
  refine lv_irem hx hb dX1_headers_6 (by decide) ?_
  refine lv_iconst (v := 1) hx hb dX1_headers_7 (by decide) ?_
  refine lv_icmp_ne (tgt := 15) hx hb dX1_headers_8 (by decide) (fun c34 => ?_) (fun c34 => ?_)
  · replace hw := hw.2 c34
    refine lv_iconst (v := 0) hx hb dX1_headers_15 (by decide) ?_
    exact kX1_headers_b16 C hlt hxt hR hS hk hn (lv_sub hl [0] rfl) hw
  · replace hw := hw.1 c34
    refine lv_iconst (v := 1) hx hb dX1_headers_11 (by decide) ?_
    refine lv_goto (tgt := 16) hx hb dX1_headers_12 (by decide) ?_
    exact kX1_headers_b16 C hlt hxt hR hS hk hn (lv_sub hl [0] rfl) hw
/-- PageServer.settings()V -/
abbrev rmX1_settings (mc0 ms0 : Nat) : Room := { frames := 7, cells := mc0, slots := ms0, locals := 122 }
section
variable {p : Program} {l : Launch} {e : Env} {s : State} {m : MethodId} {args : Array Value} {below : List Frame} {meth : Method} {c : Code} {D : va_G} {N0 : Nat} {gp : Nat → Nat} {ad : Nat → Nat} {XF : x_X} {mc0 ms0 : Nat}
def wX1_settings_b38 (post : (Nat → Int32) → (Nat → Nat → Int32) → x_H → Prop) (postX : String → (Nat → Int32) → (Nat → Nat → Int32) → x_H → Prop) (ad : Nat → Nat)  (F : (Nat → Int32)) (M : (Nat → Nat → Int32)) (h : x_H) (mc : Nat) (ms : Nat) (s0 : Int32) : Prop :=
  ∃ ca73 cb74 mc75 ms76 : Nat, ca73 + mc75 ≤ mc ∧ cb74 + ms76 ≤ ms ∧ wX1_must (fun F77 M77 h78 => post F77 M77 h78) postX ad s0 6 F M h ca73 cb74
theorem kX1_settings_b38 {post : (Nat → Int32) → (Nat → Nat → Int32) → x_H → Prop} {postX : String → (Nat → Int32) → (Nat → Nat → Int32) → x_H → Prop} (C : x_C p s m args meth c cX1_settings 5 none RX1 D N0 gp) (hlt : l.stackTraces = false) (hxt : ∀ x ∈ c.exceptionTable.toList, False) {F : (Nat → Int32)} {M : (Nat → Nat → Int32)} {h : x_H} {mc : Nat} {ms : Nat} {s0 : Int32} {k n : Nat} {H : Heap} {locs : List Loc} {ls : Array Slot} (hR : x_R D s N0 (fixC ad F M ++ XF) h H) (hS : va_S (x_A N0) s.heap H locs) (hk : k + mc ≤ mc0) (hn : n + ms ≤ ms0) (hl : lv_has ls 5 []) (hw : wX1_settings_b38 post postX ad F M h mc ms s0) : W p l e (rmX1_settings mc0 ms0) s m args below meth c H locs k n (vx_MQ below (x_Qc D N0 (x_Vv (qCv ad XF post))) (x_XC D N0 (qXC ad XF postX)) args s mc0 ms0 (x_A N0)) (F0 m 38 ls [.int s0, .ref (ad 1000)]) := by
  obtain ⟨⟨hx, hb, hml, hown, hts⟩, hr, hlocks, hG, hN⟩ := id C
  unfold wX1_settings_b38 at hw
  refine lv_bipush (v := 6) hx hb dX1_settings_38 (by decide) ?_
  obtain ⟨ca73, cb74, mc75, ms76, hca73, hcb74, hw⟩ := hw
  refine x_callXv (x_runVX (n := 2) (As := [.int s0, .int 6]) C hR hS (kX1_must l D N0 gp ad XF s0 6 F M h ca73 cb74 _ _ hlt hw) (lw_V q507 q509 qs11 q85 q510) rfl rfl (by decide +kernel) ⟨Nat.le_of_ble_eq_true rfl, Nat.le_of_ble_eq_true rfl⟩ (x_recv C (hR.rdX 0 rfl) rfl) rfl hl.1 rfl (Nat.le_of_ble_eq_true rfl) dX1_settings_40 ⟨x_bud hk hca73, x_bud hn hcb74⟩) hS (fun E9 ce9 q9 X9 h9 H9 locs9 hq9 hR9 hS9 hce9 hcv9 hcl9 => by obtain ⟨F9, M9, e9, hq9⟩ := hq9; rw [e9] at hR9; exact x_outX C hxt hR9 hS9 ⟨_, _, rfl, hq9⟩ hce9 hcv9 hcl9 (x_bud hk hca73) (x_bud hn hcb74)) (fun X1 h78 H locs hq hR hS => ?_)
  clear hw
  obtain ⟨F77, M77, e1, hw⟩ := hq
  rw [e1] at hR
  have hk := x_budN hk hca73
  have hn := x_budN hn hcb74
  exact vx_ret (x_endv C hR hS ⟨rfl, ⟨_, _, rfl, hw⟩⟩ (x_le hk) (x_le hn) dX1_settings_43)
def wX1_settings_b177 (post : (Nat → Int32) → (Nat → Nat → Int32) → x_H → Prop) (postX : String → (Nat → Int32) → (Nat → Nat → Int32) → x_H → Prop) (K66 : (Nat → Int32) → (Nat → Nat → Int32) → x_H → Nat → Nat → Int32 → Prop) (ad : Nat → Nat)  (F : (Nat → Int32)) (M : (Nat → Nat → Int32)) (h : x_H) (mc : Nat) (ms : Nat) (x1 : Int32) : Prop :=
  K66 F M h mc ms (x1 + 2)
theorem kX1_settings_b177 {post : (Nat → Int32) → (Nat → Nat → Int32) → x_H → Prop} {postX : String → (Nat → Int32) → (Nat → Nat → Int32) → x_H → Prop} {K66 : (Nat → Int32) → (Nat → Nat → Int32) → x_H → Nat → Nat → Int32 → Prop} (C : x_C p s m args meth c cX1_settings 5 none RX1 D N0 gp) (hlt : l.stackTraces = false) (hxt : ∀ x ∈ c.exceptionTable.toList, False) (hK66 : ∀ (F : (Nat → Int32)) (M : (Nat → Nat → Int32)) (h : x_H) (mc : Nat) (ms : Nat) (x1 : Int32) (k n : Nat) (H : Heap) (locs : List Loc) (ls : Array Slot), x_R D s N0 (fixC ad F M ++ XF) h H → va_S (x_A N0) s.heap H locs → k + mc ≤ mc0 → n + ms ≤ ms0 → lv_has ls 5 [(0, .ref (ad 1000)), (1, .int x1)] → K66 F M h mc ms x1 → W p l e (rmX1_settings mc0 ms0) s m args below meth c H locs k n (vx_MQ below (x_Qc D N0 (x_Vv (qCv ad XF post))) (x_XC D N0 (qXC ad XF postX)) args s mc0 ms0 (x_A N0)) (F0 m 66 ls [])) {F : (Nat → Int32)} {M : (Nat → Nat → Int32)} {h : x_H} {mc : Nat} {ms : Nat} {x1 : Int32} {k n : Nat} {H : Heap} {locs : List Loc} {ls : Array Slot} (hR : x_R D s N0 (fixC ad F M ++ XF) h H) (hS : va_S (x_A N0) s.heap H locs) (hk : k + mc ≤ mc0) (hn : n + ms ≤ ms0) (hl : lv_has ls 5 [(0, .ref (ad 1000)), (1, .int x1)]) (hw : wX1_settings_b177 post postX K66 ad F M h mc ms x1) : W p l e (rmX1_settings mc0 ms0) s m args below meth c H locs k n (vx_MQ below (x_Qc D N0 (x_Vv (qCv ad XF post))) (x_XC D N0 (qXC ad XF postX)) args s mc0 ms0 (x_A N0)) (F0 m 177 ls []) := by
  obtain ⟨⟨hx, hb, hml, hown, hts⟩, hr, hlocks, hG, hN⟩ := id C
  unfold wX1_settings_b177 at hw
  refine lv_iinc (v := x1 + 2) (lv' := [(1, .int (x1 + 2)), (0, .ref (ad 1000))]) hx hb dX1_settings_177 hl (k := 1) rfl (x_inc 2 2 (by decide)) (by decide) rfl (fun ls hl => ?_)
  refine lv_goto (tgt := 66) hx hb dX1_settings_180 (by decide) ?_
  exact hK66 _ _ _ _ _ _ _ _ _ _ _ hR hS hk hn (lv_sub hl [1, 0] rfl) hw
def wX1_settings_b139 (post : (Nat → Int32) → (Nat → Nat → Int32) → x_H → Prop) (postX : String → (Nat → Int32) → (Nat → Nat → Int32) → x_H → Prop) (K66 : (Nat → Int32) → (Nat → Nat → Int32) → x_H → Nat → Nat → Int32 → Prop) (ad : Nat → Nat)  (F : (Nat → Int32)) (M : (Nat → Nat → Int32)) (h : x_H) (mc : Nat) (ms : Nat) (x1 : Int32) (x2 : Int32) : Prop :=
  wX1_settings_b177 post postX K66 ad (upd F 23 x2) M h mc ms x1
theorem kX1_settings_b139 {post : (Nat → Int32) → (Nat → Nat → Int32) → x_H → Prop} {postX : String → (Nat → Int32) → (Nat → Nat → Int32) → x_H → Prop} {K66 : (Nat → Int32) → (Nat → Nat → Int32) → x_H → Nat → Nat → Int32 → Prop} (C : x_C p s m args meth c cX1_settings 5 none RX1 D N0 gp) (hlt : l.stackTraces = false) (hxt : ∀ x ∈ c.exceptionTable.toList, False) (hK66 : ∀ (F : (Nat → Int32)) (M : (Nat → Nat → Int32)) (h : x_H) (mc : Nat) (ms : Nat) (x1 : Int32) (k n : Nat) (H : Heap) (locs : List Loc) (ls : Array Slot), x_R D s N0 (fixC ad F M ++ XF) h H → va_S (x_A N0) s.heap H locs → k + mc ≤ mc0 → n + ms ≤ ms0 → lv_has ls 5 [(0, .ref (ad 1000)), (1, .int x1)] → K66 F M h mc ms x1 → W p l e (rmX1_settings mc0 ms0) s m args below meth c H locs k n (vx_MQ below (x_Qc D N0 (x_Vv (qCv ad XF post))) (x_XC D N0 (qXC ad XF postX)) args s mc0 ms0 (x_A N0)) (F0 m 66 ls [])) {F : (Nat → Int32)} {M : (Nat → Nat → Int32)} {h : x_H} {mc : Nat} {ms : Nat} {x1 : Int32} {x2 : Int32} {k n : Nat} {H : Heap} {locs : List Loc} {ls : Array Slot} (hR : x_R D s N0 (fixC ad F M ++ XF) h H) (hS : va_S (x_A N0) s.heap H locs) (hk : k + mc ≤ mc0) (hn : n + ms ≤ ms0) (hl : lv_has ls 5 [(0, .ref (ad 1000)), (1, .int x1), (2, .int x2)]) (hw : wX1_settings_b139 post postX K66 ad F M h mc ms x1 x2) : W p l e (rmX1_settings mc0 ms0) s m args below meth c H locs k n (vx_MQ below (x_Qc D N0 (x_Vv (qCv ad XF post))) (x_XC D N0 (qXC ad XF postX)) args s mc0 ms0 (x_A N0)) (F0 m 139 ls []) := by
  obtain ⟨⟨hx, hb, hml, hown, hts⟩, hr, hlocks, hG, hN⟩ := id C
  unfold wX1_settings_b139 at hw
  refine lv_aload_n hx hb dX1_settings_139 rfl (lv_at hl 0 rfl) ?_
  refine lv_iload_n hx hb dX1_settings_140 rfl (lv_at hl 2 rfl) ?_
  refine x_putX (ci := 0) (Cn := RX1) (T := TX1) (N := 27) (v := .int x2) C hR hS 0 rfl rfl in_X1 tyX1_ok nmX1 23 (by decide) q416 (fun _ h9 => h9) rfl rfl rfl (Nat.le_of_ble_eq_true rfl) (sC_f23 ..) dX1_settings_141 (fun H locs hR hS => ?_)
  refine lv_goto (tgt := 177) hx hb dX1_settings_144 (by decide) ?_
  exact kX1_settings_b177 C hlt hxt hK66 hR hS hk hn (lv_sub hl [0, 1] rfl) hw
def tX1_settings_b93 (post : (Nat → Int32) → (Nat → Nat → Int32) → x_H → Prop) (postX : String → (Nat → Int32) → (Nat → Nat → Int32) → x_H → Prop) (K66 : (Nat → Int32) → (Nat → Nat → Int32) → x_H → Nat → Nat → Int32 → Prop) (K93 : (Nat → Int32) → (Nat → Nat → Int32) → x_H → Nat → Nat → Int32 → Int32 → Int32 → Prop) (ad : Nat → Nat)  (F : (Nat → Int32)) (M : (Nat → Nat → Int32)) (h : x_H) (mc : Nat) (ms : Nat) (x1 : Int32) (x2 : Int32) (x3 : Int32) : Prop :=
  ∃ (t95 : Nat) (fs96 : List Value), h (ad 1) = some (t95, .inr (7, fs96)) ∧ wJ2_size (fun r94 => (r94 ≤ x3 → wX1_settings_b139 post postX K66 ad F M h mc ms x1 x2) ∧ (¬ r94 ≤ x3 → ∃ (t100 : Nat) (fs101 : List Value), h (ad 1) = some (t100, .inr (7, fs101)) ∧ wJ2_get (fun r99 => ∃ a103 : Nat, r99 = some a103 ∧ ∃ (t104 : Nat) (fs105 : List Value), h a103 = some (t104, .inr (4, fs105)) ∧ ∃ y108 : Int32, x_f h a103 4 1 (.int y108) ∧ ∃ (t109 : Nat) (fs110 : List Value), h a103 = some (t109, .inr (4, fs110)) ∧ t109 ≠ 1 ∧ 1 < fs110.length ∧ ∀ h114 : x_H, h114 = x_hs h a103 t109 (.inr (4, fs110.set 1 (.int (y108 + (x2 - (F 23)))))) → K93 F M h114 mc ms x1 x2 (x3 + 1)) (ad 1) x3 h)) (ad 1) h
def wX1_settings_b93 (post : (Nat → Int32) → (Nat → Nat → Int32) → x_H → Prop) (postX : String → (Nat → Int32) → (Nat → Nat → Int32) → x_H → Prop) (K66 : (Nat → Int32) → (Nat → Nat → Int32) → x_H → Nat → Nat → Int32 → Prop) (ad : Nat → Nat)  : Nat → (Nat → Int32) → (Nat → Nat → Int32) → x_H → Nat → Nat → Int32 → Int32 → Int32 → Prop
  | 0 => fun _ _ _ _ _ _ _ _ => False
  | n + 1 => fun F M h mc ms x1 x2 x3 => tX1_settings_b93 post postX K66 (wX1_settings_b93 post postX K66 ad n) ad F M h mc ms x1 x2 x3
theorem kX1_settings_b93 {post : (Nat → Int32) → (Nat → Nat → Int32) → x_H → Prop} {postX : String → (Nat → Int32) → (Nat → Nat → Int32) → x_H → Prop} {K66 : (Nat → Int32) → (Nat → Nat → Int32) → x_H → Nat → Nat → Int32 → Prop} (C : x_C p s m args meth c cX1_settings 5 none RX1 D N0 gp) (hlt : l.stackTraces = false) (hxt : ∀ x ∈ c.exceptionTable.toList, False) (hK66 : ∀ (F : (Nat → Int32)) (M : (Nat → Nat → Int32)) (h : x_H) (mc : Nat) (ms : Nat) (x1 : Int32) (k n : Nat) (H : Heap) (locs : List Loc) (ls : Array Slot), x_R D s N0 (fixC ad F M ++ XF) h H → va_S (x_A N0) s.heap H locs → k + mc ≤ mc0 → n + ms ≤ ms0 → lv_has ls 5 [(0, .ref (ad 1000)), (1, .int x1)] → K66 F M h mc ms x1 → W p l e (rmX1_settings mc0 ms0) s m args below meth c H locs k n (vx_MQ below (x_Qc D N0 (x_Vv (qCv ad XF post))) (x_XC D N0 (qXC ad XF postX)) args s mc0 ms0 (x_A N0)) (F0 m 66 ls [])) : ∀ (nn : Nat) (F : (Nat → Int32)) (M : (Nat → Nat → Int32)) (h : x_H) (mc : Nat) (ms : Nat) (x1 : Int32) (x2 : Int32) (x3 : Int32) (k n : Nat) (H : Heap) (locs : List Loc) (ls : Array Slot), x_R D s N0 (fixC ad F M ++ XF) h H → va_S (x_A N0) s.heap H locs → k + mc ≤ mc0 → n + ms ≤ ms0 → lv_has ls 5 [(0, .ref (ad 1000)), (1, .int x1), (2, .int x2), (3, .int x3)] → wX1_settings_b93 post postX K66 ad nn F M h mc ms x1 x2 x3 → W p l e (rmX1_settings mc0 ms0) s m args below meth c H locs k n (vx_MQ below (x_Qc D N0 (x_Vv (qCv ad XF post))) (x_XC D N0 (qXC ad XF postX)) args s mc0 ms0 (x_A N0)) (F0 m 93 ls []) := by
  obtain ⟨⟨hx, hb, hml, hown, hts⟩, hr, hlocks, hG, hN⟩ := id C
  intro nn
  induction nn with
  | zero =>
    intro F M h mc ms x1 x2 x3 k n H locs ls hR hS hk hn hl hw
    exact False.elim hw
  | succ nn ih =>
    intro F M h mc ms x1 x2 x3 k n H locs ls hR hS hk hn hl hw
    have hK93 := ih
    replace hw : tX1_settings_b93 post postX K66 (wX1_settings_b93 post postX K66 ad nn) ad F M h mc ms x1 x2 x3 := hw
    unfold tX1_settings_b93 at hw
    refine lv_iload_n hx hb dX1_settings_93 rfl (lv_at hl 3 rfl) ?_
    refine lv_aload_n hx hb dX1_settings_94 rfl (lv_at hl 0 rfl) ?_
    refine x_get (ci := 0) (Cn := RX1) (T := TX1) (N := 27) (v := .ref (ad 1)) C (hR.rdX 0 rfl) rfl in_X1 1 (by decide) q394 (fun _ h9 => h9) rfl dX1_settings_95 ?_
    obtain ⟨t95, fs96, he97, hw⟩ := hw
    refine x_calli0 (x_runV (n := 0) (As := []) C hR hS (kJ2_size l D N0 gp _ (ad 1) h _ hw) (lw_V q358 q359 q360 q88 q361) rfl rfl (by decide +kernel) ⟨Nat.le_of_ble_eq_true rfl, Nat.le_of_ble_eq_true rfl⟩ (x_recv C (hR.rdH he97) rfl) rfl hl.1 rfl (Nat.le_of_ble_eq_true rfl) dX1_settings_98 ⟨x_bud0 hk, x_bud0 hn⟩) hS (fun r94 X1 h1 H locs hq hR hS => ?_)
    clear hw
    obtain ⟨e1, e2, hw⟩ := hq
    rw [e1, e2] at hR
    refine lv_icmp_ge (tgt := 139) hx hb dX1_settings_101 (by decide) (fun c98 => ?_) (fun c98 => ?_)
    · replace hw := hw.1 c98
      exact kX1_settings_b139 C hlt hxt hK66 hR hS hk hn (lv_sub hl [0, 1, 2] rfl) hw
    · replace hw := hw.2 c98
      refine lv_aload_n hx hb dX1_settings_104 rfl (lv_at hl 0 rfl) ?_
      refine x_get (ci := 0) (Cn := RX1) (T := TX1) (N := 27) (v := .ref (ad 1)) C (hR.rdX 0 rfl) rfl in_X1 1 (by decide) q394 (fun _ h9 => h9) rfl dX1_settings_105 ?_
      refine lv_iload_n hx hb dX1_settings_108 rfl (lv_at hl 3 rfl) ?_
      obtain ⟨t100, fs101, he102, hw⟩ := hw
      refine x_calla0 (x_runV (n := 1) (As := [.int x3]) C hR hS (kJ2_get l D N0 gp _ (ad 1) x3 h _ hw) (lw_V q598 q599 q600 q88 q601) rfl rfl (by decide +kernel) ⟨Nat.le_of_ble_eq_true rfl, Nat.le_of_ble_eq_true rfl⟩ (x_recv C (hR.rdH he102) rfl) rfl hl.1 rfl (Nat.le_of_ble_eq_true rfl) dX1_settings_109 ⟨x_bud0 hk, x_bud0 hn⟩) hS (fun r99 X1 h1 H locs hq hR hS => ?_)
      clear hw
      obtain ⟨e1, e2, hw⟩ := hq
      rw [e1, e2] at hR
      obtain ⟨a103, ea103, hw⟩ := hw
      rw [ea103]
      obtain ⟨t104, fs105, he106, hw⟩ := hw
      refine x_castH (ci := 4) (Cn := RX5) (T := TX5) (N := 9) C hR he106 rfl q313 dX1_settings_112 ?_
      refine lv_astore (lv' := [(4, .ref a103), (0, .ref (ad 1000)), (1, .int x1), (2, .int x2), (3, .int x3)]) hx hb dX1_settings_115 hl (by decide) rfl (fun ls hl => ?_)
      refine lv_aload hx hb dX1_settings_117 (lv_at hl 0 rfl) ?_
      refine lv_dup hx hb dX1_settings_119 rfl ?_
      obtain ⟨y108, hf107, hw⟩ := hw
      refine x_getHN (ci := 4) (Cn := RX5) (T := TX5) (N := 9) (k := 1) C hR hf107 rfl in_X5 (by decide) (x_nest C q322 rfl) (fun _ h9 => h9) dX1_settings_120 ?_
      refine lv_iload_n hx hb dX1_settings_123 rfl (lv_at hl 3 rfl) ?_
      refine lv_aload_n hx hb dX1_settings_124 rfl (lv_at hl 1 rfl) ?_
      refine x_get (ci := 0) (Cn := RX1) (T := TX1) (N := 27) (v := .int (F 23)) C (hR.rdX 0 rfl) rfl in_X1 23 (by decide) q416 (fun _ h9 => h9) rfl dX1_settings_125 ?_
      refine lv_isub hx hb dX1_settings_128 ?_
      refine lv_iadd hx hb dX1_settings_129 ?_
      obtain ⟨t109, fs110, he111, ht112, hl113, hw⟩ := hw
      refine x_putHN (ci := 4) (Cn := RX5) (T := TX5) (N := 9) (v := .int (y108 + (x2 - (F 23)))) C hR hS he111 ht112 rfl in_X5 tyX5_ok nmX5 1 (by decide) (x_nest C q322 rfl) (fun _ h9 => h9) rfl rfl rfl hl113 dX1_settings_130 (fun H locs hR hS => ?_)
      obtain ⟨h114, eh114⟩ : ∃ z, z = x_hs h a103 t109 (.inr (4, fs110.set 1 (.int (y108 + (x2 - (F 23)))))) := ⟨_, rfl⟩
      rw [← eh114] at hR
      replace hw := hw h114 eh114
      refine lv_iinc (v := x3 + 1) (lv' := [(3, .int (x3 + 1)), (4, .ref a103), (0, .ref (ad 1000)), (1, .int x1), (2, .int x2)]) hx hb dX1_settings_133 hl (k := 4) rfl (x_inc 1 1 (by decide)) (by decide) rfl (fun ls hl => ?_)
      refine lv_goto (tgt := 93) hx hb dX1_settings_136 (by decide) ?_
      exact hK93 _ _ _ _ _ _ _ _ _ _ _ _ _ hR hS hk hn (lv_sub hl [2, 3, 4, 0] rfl) hw
def wX1_settings_b168 (post : (Nat → Int32) → (Nat → Nat → Int32) → x_H → Prop) (postX : String → (Nat → Int32) → (Nat → Nat → Int32) → x_H → Prop) (K66 : (Nat → Int32) → (Nat → Nat → Int32) → x_H → Nat → Nat → Int32 → Prop) (ad : Nat → Nat)  (F : (Nat → Int32)) (M : (Nat → Nat → Int32)) (h : x_H) (mc : Nat) (ms : Nat) (x1 : Int32) (x2 : Int32) (s0 : Int32) : Prop :=
  ∃ ca115 cb116 mc117 ms118 : Nat, ca115 + mc117 ≤ mc ∧ cb116 + ms118 ≤ ms ∧ wX1_must (fun F119 M119 h120 => wX1_settings_b177 post postX K66 ad (upd F119 24 x2) M119 h120 mc117 ms118 x1) postX ad s0 1 F M h ca115 cb116
theorem kX1_settings_b168 {post : (Nat → Int32) → (Nat → Nat → Int32) → x_H → Prop} {postX : String → (Nat → Int32) → (Nat → Nat → Int32) → x_H → Prop} {K66 : (Nat → Int32) → (Nat → Nat → Int32) → x_H → Nat → Nat → Int32 → Prop} (C : x_C p s m args meth c cX1_settings 5 none RX1 D N0 gp) (hlt : l.stackTraces = false) (hxt : ∀ x ∈ c.exceptionTable.toList, False) (hK66 : ∀ (F : (Nat → Int32)) (M : (Nat → Nat → Int32)) (h : x_H) (mc : Nat) (ms : Nat) (x1 : Int32) (k n : Nat) (H : Heap) (locs : List Loc) (ls : Array Slot), x_R D s N0 (fixC ad F M ++ XF) h H → va_S (x_A N0) s.heap H locs → k + mc ≤ mc0 → n + ms ≤ ms0 → lv_has ls 5 [(0, .ref (ad 1000)), (1, .int x1)] → K66 F M h mc ms x1 → W p l e (rmX1_settings mc0 ms0) s m args below meth c H locs k n (vx_MQ below (x_Qc D N0 (x_Vv (qCv ad XF post))) (x_XC D N0 (qXC ad XF postX)) args s mc0 ms0 (x_A N0)) (F0 m 66 ls [])) {F : (Nat → Int32)} {M : (Nat → Nat → Int32)} {h : x_H} {mc : Nat} {ms : Nat} {x1 : Int32} {x2 : Int32} {s0 : Int32} {k n : Nat} {H : Heap} {locs : List Loc} {ls : Array Slot} (hR : x_R D s N0 (fixC ad F M ++ XF) h H) (hS : va_S (x_A N0) s.heap H locs) (hk : k + mc ≤ mc0) (hn : n + ms ≤ ms0) (hl : lv_has ls 5 [(0, .ref (ad 1000)), (1, .int x1), (2, .int x2)]) (hw : wX1_settings_b168 post postX K66 ad F M h mc ms x1 x2 s0) : W p l e (rmX1_settings mc0 ms0) s m args below meth c H locs k n (vx_MQ below (x_Qc D N0 (x_Vv (qCv ad XF post))) (x_XC D N0 (qXC ad XF postX)) args s mc0 ms0 (x_A N0)) (F0 m 168 ls [.int s0, .ref (ad 1000)]) := by
  obtain ⟨⟨hx, hb, hml, hown, hts⟩, hr, hlocks, hG, hN⟩ := id C
  unfold wX1_settings_b168 at hw
  refine lv_iconst (v := 1) hx hb dX1_settings_168 (by decide) ?_
  obtain ⟨ca115, cb116, mc117, ms118, hca115, hcb116, hw⟩ := hw
  refine x_callXv (x_runVX (n := 2) (As := [.int s0, .int 1]) C hR hS (kX1_must l D N0 gp ad XF s0 1 F M h ca115 cb116 _ _ hlt hw) (lw_V q507 q509 qs11 q85 q510) rfl rfl (by decide +kernel) ⟨Nat.le_of_ble_eq_true rfl, Nat.le_of_ble_eq_true rfl⟩ (x_recv C (hR.rdX 0 rfl) rfl) rfl hl.1 rfl (Nat.le_of_ble_eq_true rfl) dX1_settings_169 ⟨x_bud hk hca115, x_bud hn hcb116⟩) hS (fun E9 ce9 q9 X9 h9 H9 locs9 hq9 hR9 hS9 hce9 hcv9 hcl9 => by obtain ⟨F9, M9, e9, hq9⟩ := hq9; rw [e9] at hR9; exact x_outX C hxt hR9 hS9 ⟨_, _, rfl, hq9⟩ hce9 hcv9 hcl9 (x_bud hk hca115) (x_bud hn hcb116)) (fun X1 h120 H locs hq hR hS => ?_)
  clear hw
  obtain ⟨F119, M119, e1, hw⟩ := hq
  rw [e1] at hR
  have hk := x_budN hk hca115
  have hn := x_budN hn hcb116
  refine lv_aload_n hx hb dX1_settings_172 rfl (lv_at hl 0 rfl) ?_
  refine lv_iload_n hx hb dX1_settings_173 rfl (lv_at hl 2 rfl) ?_
  refine x_putX (ci := 0) (Cn := RX1) (T := TX1) (N := 27) (v := .int x2) C hR hS 0 rfl rfl in_X1 tyX1_ok nmX1 24 (by decide) q417 (fun _ h9 => h9) rfl rfl rfl (Nat.le_of_ble_eq_true rfl) (sC_f24 ..) dX1_settings_174 (fun H locs hR hS => ?_)
  exact kX1_settings_b177 C hlt hxt hK66 hR hS hk hn (lv_sub hl [0, 1] rfl) hw
def wX1_settings_b183 (post : (Nat → Int32) → (Nat → Nat → Int32) → x_H → Prop) (postX : String → (Nat → Int32) → (Nat → Nat → Int32) → x_H → Prop) (ad : Nat → Nat)  (F : (Nat → Int32)) (M : (Nat → Nat → Int32)) (h : x_H) (mc : Nat) (ms : Nat) : Prop :=
  wX1_head (fun F121 M121 h122 => post F121 M121 h122) ad 0 4 1 0 F M h
theorem kX1_settings_b183 {post : (Nat → Int32) → (Nat → Nat → Int32) → x_H → Prop} {postX : String → (Nat → Int32) → (Nat → Nat → Int32) → x_H → Prop} (C : x_C p s m args meth c cX1_settings 5 none RX1 D N0 gp) (hlt : l.stackTraces = false) (hxt : ∀ x ∈ c.exceptionTable.toList, False) {F : (Nat → Int32)} {M : (Nat → Nat → Int32)} {h : x_H} {mc : Nat} {ms : Nat} {k n : Nat} {H : Heap} {locs : List Loc} {ls : Array Slot} (hR : x_R D s N0 (fixC ad F M ++ XF) h H) (hS : va_S (x_A N0) s.heap H locs) (hk : k + mc ≤ mc0) (hn : n + ms ≤ ms0) (hl : lv_has ls 5 [(0, .ref (ad 1000))]) (hw : wX1_settings_b183 post postX ad F M h mc ms) : W p l e (rmX1_settings mc0 ms0) s m args below meth c H locs k n (vx_MQ below (x_Qc D N0 (x_Vv (qCv ad XF post))) (x_XC D N0 (qXC ad XF postX)) args s mc0 ms0 (x_A N0)) (F0 m 183 ls []) := by
  obtain ⟨⟨hx, hb, hml, hown, hts⟩, hr, hlocks, hG, hN⟩ := id C
  unfold wX1_settings_b183 at hw
  refine lv_aload_n hx hb dX1_settings_183 rfl (lv_at hl 0 rfl) ?_
  refine lv_iconst (v := 0) hx hb dX1_settings_184 (by decide) ?_
  refine lv_iconst (v := 4) hx hb dX1_settings_185 (by decide) ?_
  refine lv_iconst (v := 1) hx hb dX1_settings_186 (by decide) ?_
  refine lv_iconst (v := 0) hx hb dX1_settings_187 (by decide) ?_
  refine x_callv0 (x_runV (n := 4) (As := [.int 0, .int 4, .int 1, .int 0]) C hR hS (kX1_head l D N0 gp ad XF 0 4 1 0 F M h _ hw) (lw_V q385 q387 qs4 q85 q388) rfl rfl (by decide +kernel) ⟨Nat.le_of_ble_eq_true rfl, Nat.le_of_ble_eq_true rfl⟩ (x_recv C (hR.rdX 0 rfl) rfl) rfl hl.1 rfl (Nat.le_of_ble_eq_true rfl) dX1_settings_188 ⟨x_bud0 hk, x_bud0 hn⟩) hS (fun X1 h122 H locs hq hR hS => ?_)
  clear hw
  obtain ⟨F121, M121, e1, hw⟩ := hq
  rw [e1] at hR
  exact vx_ret (x_endv C hR hS ⟨rfl, ⟨_, _, rfl, hw⟩⟩ (x_le hk) (x_le hn) dX1_settings_191)
def tX1_settings_b66 (post : (Nat → Int32) → (Nat → Nat → Int32) → x_H → Prop) (postX : String → (Nat → Int32) → (Nat → Nat → Int32) → x_H → Prop) (K66 : (Nat → Int32) → (Nat → Nat → Int32) → x_H → Nat → Nat → Int32 → Prop) (ad : Nat → Nat)  (F : (Nat → Int32)) (M : (Nat → Nat → Int32)) (h : x_H) (mc : Nat) (ms : Nat) (x1 : Int32) : Prop :=
  ((F 12) ≤ x1 → wX1_settings_b183 post postX ad F M h mc ms) ∧ (¬ (F 12) ≤ x1 → wX1_byteAt (fun r87 => wX1_byteAt (fun r88 => (r88 = 4 → ∃ n93 : Nat, wX1_settings_b93 post postX K66 ad n93 F M h mc ms x1 r87 0) ∧ (¬ r88 = 4 → wX1_byteAt (fun r90 => (r90 = 5 → (r87 < 16 → wX1_settings_b168 post postX K66 ad F M h mc ms x1 r87 0) ∧ (¬ r87 < 16 → wX1_settings_b168 post postX K66 ad F M h mc ms x1 r87 1)) ∧ (¬ r90 = 5 → wX1_settings_b177 post postX K66 ad F M h mc ms x1)) ad x1 F M h)) ad x1 F M h) ad (x1 + 1) F M h)
def wX1_settings_b66 (post : (Nat → Int32) → (Nat → Nat → Int32) → x_H → Prop) (postX : String → (Nat → Int32) → (Nat → Nat → Int32) → x_H → Prop) (ad : Nat → Nat)  : Nat → (Nat → Int32) → (Nat → Nat → Int32) → x_H → Nat → Nat → Int32 → Prop
  | 0 => fun _ _ _ _ _ _ => False
  | n + 1 => fun F M h mc ms x1 => tX1_settings_b66 post postX (wX1_settings_b66 post postX ad n) ad F M h mc ms x1
theorem kX1_settings_b66 {post : (Nat → Int32) → (Nat → Nat → Int32) → x_H → Prop} {postX : String → (Nat → Int32) → (Nat → Nat → Int32) → x_H → Prop} (C : x_C p s m args meth c cX1_settings 5 none RX1 D N0 gp) (hlt : l.stackTraces = false) (hxt : ∀ x ∈ c.exceptionTable.toList, False) : ∀ (nn : Nat) (F : (Nat → Int32)) (M : (Nat → Nat → Int32)) (h : x_H) (mc : Nat) (ms : Nat) (x1 : Int32) (k n : Nat) (H : Heap) (locs : List Loc) (ls : Array Slot), x_R D s N0 (fixC ad F M ++ XF) h H → va_S (x_A N0) s.heap H locs → k + mc ≤ mc0 → n + ms ≤ ms0 → lv_has ls 5 [(0, .ref (ad 1000)), (1, .int x1)] → wX1_settings_b66 post postX ad nn F M h mc ms x1 → W p l e (rmX1_settings mc0 ms0) s m args below meth c H locs k n (vx_MQ below (x_Qc D N0 (x_Vv (qCv ad XF post))) (x_XC D N0 (qXC ad XF postX)) args s mc0 ms0 (x_A N0)) (F0 m 66 ls []) := by
  obtain ⟨⟨hx, hb, hml, hown, hts⟩, hr, hlocks, hG, hN⟩ := id C
  intro nn
  induction nn with
  | zero =>
    intro F M h mc ms x1 k n H locs ls hR hS hk hn hl hw
    exact False.elim hw
  | succ nn ih =>
    intro F M h mc ms x1 k n H locs ls hR hS hk hn hl hw
    have hK66 := ih
    replace hw : tX1_settings_b66 post postX (wX1_settings_b66 post postX ad nn) ad F M h mc ms x1 := hw
    unfold tX1_settings_b66 at hw
    refine lv_iload_n hx hb dX1_settings_66 rfl (lv_at hl 1 rfl) ?_
    refine lv_aload_n hx hb dX1_settings_67 rfl (lv_at hl 0 rfl) ?_
    refine x_get (ci := 0) (Cn := RX1) (T := TX1) (N := 27) (v := .int (F 12)) C (hR.rdX 0 rfl) rfl in_X1 12 (by decide) q405 (fun _ h9 => h9) rfl dX1_settings_68 ?_
    refine lv_icmp_ge (tgt := 183) hx hb dX1_settings_71 (by decide) (fun c86 => ?_) (fun c86 => ?_)
    · replace hw := hw.1 c86
      exact kX1_settings_b183 C hlt hxt hR hS hk hn (lv_sub hl [0] rfl) hw
    · replace hw := hw.2 c86
      refine lv_aload_n hx hb dX1_settings_74 rfl (lv_at hl 0 rfl) ?_
      refine lv_iload_n hx hb dX1_settings_75 rfl (lv_at hl 1 rfl) ?_
      refine lv_iconst (v := 1) hx hb dX1_settings_76 (by decide) ?_
      refine lv_iadd hx hb dX1_settings_77 ?_
      refine x_calli0 (x_runV (n := 1) (As := [.int (x1 + 1)]) C hR hS (kX1_byteAt l D N0 gp ad XF (x1 + 1) F M h _ hw) (lw_V q586 q588 qs16 q85 q589) rfl rfl (by decide +kernel) ⟨Nat.le_of_ble_eq_true rfl, Nat.le_of_ble_eq_true rfl⟩ (x_recv C (hR.rdX 0 rfl) rfl) rfl hl.1 rfl (Nat.le_of_ble_eq_true rfl) dX1_settings_78 ⟨x_bud0 hk, x_bud0 hn⟩) hS (fun r87 X1 h1 H locs hq hR hS => ?_)
      clear hw
      obtain ⟨e1, e2, hw⟩ := hq
      rw [e1, e2] at hR
      refine lv_istore_n (lv' := [(2, .int r87), (0, .ref (ad 1000)), (1, .int x1)]) hx hb dX1_settings_81 rfl hl (by decide) rfl (fun ls hl => ?_)
      refine lv_aload_n hx hb dX1_settings_82 rfl (lv_at hl 1 rfl) ?_
      refine lv_iload_n hx hb dX1_settings_83 rfl (lv_at hl 2 rfl) ?_
      refine x_calli0 (x_runV (n := 1) (As := [.int x1]) C hR hS (kX1_byteAt l D N0 gp ad XF x1 F M h _ hw) (lw_V q586 q588 qs16 q85 q589) rfl rfl (by decide +kernel) ⟨Nat.le_of_ble_eq_true rfl, Nat.le_of_ble_eq_true rfl⟩ (x_recv C (hR.rdX 0 rfl) rfl) rfl hl.1 rfl (Nat.le_of_ble_eq_true rfl) dX1_settings_84 ⟨x_bud0 hk, x_bud0 hn⟩) hS (fun r88 X1 h1 H locs hq hR hS => ?_)
      clear hw
      obtain ⟨e1, e2, hw⟩ := hq
      rw [e1, e2] at hR
      refine lv_iconst (v := 4) hx hb dX1_settings_87 (by decide) ?_
      refine lv_icmp_ne (tgt := 147) hx hb dX1_settings_88 (by decide) (fun c89 => ?_) (fun c89 => ?_)
      · replace hw := hw.2 c89
        refine lv_aload_n hx hb dX1_settings_147 rfl (lv_at hl 1 rfl) ?_
        refine lv_iload_n hx hb dX1_settings_148 rfl (lv_at hl 2 rfl) ?_
        refine x_calli0 (x_runV (n := 1) (As := [.int x1]) C hR hS (kX1_byteAt l D N0 gp ad XF x1 F M h _ hw) (lw_V q586 q588 qs16 q85 q589) rfl rfl (by decide +kernel) ⟨Nat.le_of_ble_eq_true rfl, Nat.le_of_ble_eq_true rfl⟩ (x_recv C (hR.rdX 0 rfl) rfl) rfl hl.1 rfl (Nat.le_of_ble_eq_true rfl) dX1_settings_149 ⟨x_bud0 hk, x_bud0 hn⟩) hS (fun r90 X1 h1 H locs hq hR hS => ?_)
        clear hw
        obtain ⟨e1, e2, hw⟩ := hq
        rw [e1, e2] at hR
        refine lv_iconst (v := 5) hx hb dX1_settings_152 (by decide) ?_
        refine lv_icmp_ne (tgt := 177) hx hb dX1_settings_153 (by decide) (fun c91 => ?_) (fun c91 => ?_)
        · replace hw := hw.2 c91
          exact kX1_settings_b177 C hlt hxt hK66 hR hS hk hn (lv_sub hl [1, 2] rfl) hw
        · replace hw := hw.1 c91
          refine lv_aload_n hx hb dX1_settings_156 rfl (lv_at hl 1 rfl) ?_
          refine lv_iload_n hx hb dX1_settings_157 rfl (lv_at hl 0 rfl) ?_
          refine lv_bipush (v := 16) hx hb dX1_settings_158 (by decide) ?_
          refine lv_icmp_lt (tgt := 167) hx hb dX1_settings_160 (by decide) (fun c92 => ?_) (fun c92 => ?_)
          · replace hw := hw.1 c92
            refine lv_iconst (v := 0) hx hb dX1_settings_167 (by decide) ?_
            exact kX1_settings_b168 C hlt hxt hK66 hR hS hk hn (lv_sub hl [1, 2, 0] rfl) hw
          · replace hw := hw.2 c92
            refine lv_iconst (v := 1) hx hb dX1_settings_163 (by decide) ?_
            refine lv_goto (tgt := 168) hx hb dX1_settings_164 (by decide) ?_
            exact kX1_settings_b168 C hlt hxt hK66 hR hS hk hn (lv_sub hl [1, 2, 0] rfl) hw
      · replace hw := hw.1 c89
        refine lv_iconst (v := 0) hx hb dX1_settings_91 (by decide) ?_
        refine lv_istore_n (lv' := [(3, .int 0), (2, .int r87), (0, .ref (ad 1000)), (1, .int x1)]) hx hb dX1_settings_92 rfl hl (by decide) rfl (fun ls hl => ?_)
        obtain ⟨n93, hw⟩ := hw
        exact kX1_settings_b93 C hlt hxt hK66 n93 _ _ _ _ _ _ _ _ _ _ _ _ _ hR hS hk hn (lv_sub hl [2, 3, 1, 0] rfl) hw
def wX1_settings_b59 (post : (Nat → Int32) → (Nat → Nat → Int32) → x_H → Prop) (postX : String → (Nat → Int32) → (Nat → Nat → Int32) → x_H → Prop) (ad : Nat → Nat)  (F : (Nat → Int32)) (M : (Nat → Nat → Int32)) (h : x_H) (mc : Nat) (ms : Nat) (s0 : Int32) : Prop :=
  ∃ ca79 cb80 mc81 ms82 : Nat, ca79 + mc81 ≤ mc ∧ cb80 + ms82 ≤ ms ∧ wX1_must (fun F83 M83 h84 => ∃ n85 : Nat, wX1_settings_b66 post postX ad n85 F83 M83 h84 mc81 ms82 0) postX ad s0 6 F M h ca79 cb80
theorem kX1_settings_b59 {post : (Nat → Int32) → (Nat → Nat → Int32) → x_H → Prop} {postX : String → (Nat → Int32) → (Nat → Nat → Int32) → x_H → Prop} (C : x_C p s m args meth c cX1_settings 5 none RX1 D N0 gp) (hlt : l.stackTraces = false) (hxt : ∀ x ∈ c.exceptionTable.toList, False) {F : (Nat → Int32)} {M : (Nat → Nat → Int32)} {h : x_H} {mc : Nat} {ms : Nat} {s0 : Int32} {k n : Nat} {H : Heap} {locs : List Loc} {ls : Array Slot} (hR : x_R D s N0 (fixC ad F M ++ XF) h H) (hS : va_S (x_A N0) s.heap H locs) (hk : k + mc ≤ mc0) (hn : n + ms ≤ ms0) (hl : lv_has ls 5 [(0, .ref (ad 1000))]) (hw : wX1_settings_b59 post postX ad F M h mc ms s0) : W p l e (rmX1_settings mc0 ms0) s m args below meth c H locs k n (vx_MQ below (x_Qc D N0 (x_Vv (qCv ad XF post))) (x_XC D N0 (qXC ad XF postX)) args s mc0 ms0 (x_A N0)) (F0 m 59 ls [.int s0, .ref (ad 1000)]) := by
  obtain ⟨⟨hx, hb, hml, hown, hts⟩, hr, hlocks, hG, hN⟩ := id C
  unfold wX1_settings_b59 at hw
  refine lv_bipush (v := 6) hx hb dX1_settings_59 (by decide) ?_
  obtain ⟨ca79, cb80, mc81, ms82, hca79, hcb80, hw⟩ := hw
  refine x_callXv (x_runVX (n := 2) (As := [.int s0, .int 6]) C hR hS (kX1_must l D N0 gp ad XF s0 6 F M h ca79 cb80 _ _ hlt hw) (lw_V q507 q509 qs11 q85 q510) rfl rfl (by decide +kernel) ⟨Nat.le_of_ble_eq_true rfl, Nat.le_of_ble_eq_true rfl⟩ (x_recv C (hR.rdX 0 rfl) rfl) rfl hl.1 rfl (Nat.le_of_ble_eq_true rfl) dX1_settings_61 ⟨x_bud hk hca79, x_bud hn hcb80⟩) hS (fun E9 ce9 q9 X9 h9 H9 locs9 hq9 hR9 hS9 hce9 hcv9 hcl9 => by obtain ⟨F9, M9, e9, hq9⟩ := hq9; rw [e9] at hR9; exact x_outX C hxt hR9 hS9 ⟨_, _, rfl, hq9⟩ hce9 hcv9 hcl9 (x_bud hk hca79) (x_bud hn hcb80)) (fun X1 h84 H locs hq hR hS => ?_)
  clear hw
  obtain ⟨F83, M83, e1, hw⟩ := hq
  rw [e1] at hR
  have hk := x_budN hk hca79
  have hn := x_budN hn hcb80
  refine lv_iconst (v := 0) hx hb dX1_settings_64 (by decide) ?_
  refine lv_istore_n (lv' := [(1, .int 0), (0, .ref (ad 1000))]) hx hb dX1_settings_65 rfl hl (by decide) rfl (fun ls hl => ?_)
  obtain ⟨n85, hw⟩ := hw
  exact kX1_settings_b66 C hlt hxt n85 _ _ _ _ _ _ _ _ _ _ _ hR hS hk hn (lv_sub hl [1, 0] rfl) hw
def wX1_settings_b13 (post : (Nat → Int32) → (Nat → Nat → Int32) → x_H → Prop) (postX : String → (Nat → Int32) → (Nat → Nat → Int32) → x_H → Prop) (ad : Nat → Nat)  (F : (Nat → Int32)) (M : (Nat → Nat → Int32)) (h : x_H) (mc : Nat) (ms : Nat) (s0 : Int32) : Prop :=
  ∃ ca63 cb64 mc65 ms66 : Nat, ca63 + mc65 ≤ mc ∧ cb64 + ms66 ≤ ms ∧ wX1_must (fun F67 M67 h68 => wX1_has (fun r69 => (r69 = 0 → (((F67 12) - (F67 12) / 2 * 2) = 0 → wX1_settings_b59 post postX ad F67 M67 h68 mc65 ms66 1) ∧ (¬ ((F67 12) - (F67 12) / 2 * 2) = 0 → wX1_settings_b59 post postX ad F67 M67 h68 mc65 ms66 0)) ∧ (¬ r69 = 0 → ((F67 12) = 0 → wX1_settings_b38 post postX ad F67 M67 h68 mc65 ms66 1) ∧ (¬ (F67 12) = 0 → wX1_settings_b38 post postX ad F67 M67 h68 mc65 ms66 0))) ad 1 F67 M67 h68) postX ad s0 1 F M h ca63 cb64
theorem kX1_settings_b13 {post : (Nat → Int32) → (Nat → Nat → Int32) → x_H → Prop} {postX : String → (Nat → Int32) → (Nat → Nat → Int32) → x_H → Prop} (C : x_C p s m args meth c cX1_settings 5 none RX1 D N0 gp) (hlt : l.stackTraces = false) (hxt : ∀ x ∈ c.exceptionTable.toList, False) {F : (Nat → Int32)} {M : (Nat → Nat → Int32)} {h : x_H} {mc : Nat} {ms : Nat} {s0 : Int32} {k n : Nat} {H : Heap} {locs : List Loc} {ls : Array Slot} (hR : x_R D s N0 (fixC ad F M ++ XF) h H) (hS : va_S (x_A N0) s.heap H locs) (hk : k + mc ≤ mc0) (hn : n + ms ≤ ms0) (hl : lv_has ls 5 [(0, .ref (ad 1000))]) (hw : wX1_settings_b13 post postX ad F M h mc ms s0) : W p l e (rmX1_settings mc0 ms0) s m args below meth c H locs k n (vx_MQ below (x_Qc D N0 (x_Vv (qCv ad XF post))) (x_XC D N0 (qXC ad XF postX)) args s mc0 ms0 (x_A N0)) (F0 m 13 ls [.int s0, .ref (ad 1000)]) := by
  obtain ⟨⟨hx, hb, hml, hown, hts⟩, hr, hlocks, hG, hN⟩ := id C
  unfold wX1_settings_b13 at hw
  refine lv_iconst (v := 1) hx hb dX1_settings_13 (by decide) ?_
  obtain ⟨ca63, cb64, mc65, ms66, hca63, hcb64, hw⟩ := hw
  refine x_callXv (x_runVX (n := 2) (As := [.int s0, .int 1]) C hR hS (kX1_must l D N0 gp ad XF s0 1 F M h ca63 cb64 _ _ hlt hw) (lw_V q507 q509 qs11 q85 q510) rfl rfl (by decide +kernel) ⟨Nat.le_of_ble_eq_true rfl, Nat.le_of_ble_eq_true rfl⟩ (x_recv C (hR.rdX 0 rfl) rfl) rfl hl.1 rfl (Nat.le_of_ble_eq_true rfl) dX1_settings_14 ⟨x_bud hk hca63, x_bud hn hcb64⟩) hS (fun E9 ce9 q9 X9 h9 H9 locs9 hq9 hR9 hS9 hce9 hcv9 hcl9 => by obtain ⟨F9, M9, e9, hq9⟩ := hq9; rw [e9] at hR9; exact x_outX C hxt hR9 hS9 ⟨_, _, rfl, hq9⟩ hce9 hcv9 hcl9 (x_bud hk hca63) (x_bud hn hcb64)) (fun X1 h68 H locs hq hR hS => ?_)
  clear hw
  obtain ⟨F67, M67, e1, hw⟩ := hq
  rw [e1] at hR
  have hk := x_budN hk hca63
  have hn := x_budN hn hcb64
  refine lv_aload_n hx hb dX1_settings_17 rfl (lv_at hl 0 rfl) ?_
  refine lv_iconst (v := 1) hx hb dX1_settings_18 (by decide) ?_
  refine x_calli0 (x_runV (n := 1) (As := [.int 1]) C hR hS (kX1_has l D N0 gp ad XF 1 F67 M67 h68 _ hw) (lw_V q503 q505 qs10 q85 q506) rfl rfl (by decide +kernel) ⟨Nat.le_of_ble_eq_true rfl, Nat.le_of_ble_eq_true rfl⟩ (x_recv C (hR.rdX 0 rfl) rfl) rfl hl.1 rfl (Nat.le_of_ble_eq_true rfl) dX1_settings_19 ⟨x_bud0 hk, x_bud0 hn⟩) hS (fun r69 X1 h1 H locs hq hR hS => ?_)
  clear hw
  obtain ⟨e1, e2, hw⟩ := hq
  rw [e1, e2] at hR
  refine lv_if_eq (tgt := 44) hx hb dX1_settings_22 (by decide) (fun c70 => ?_) (fun c70 => ?_)
  · replace hw := hw.1 c70
    refine lv_aload_n hx hb dX1_settings_44 rfl (lv_at hl 0 rfl) ?_
    refine lv_aload_n hx hb dX1_settings_45 rfl (lv_at hl 0 rfl) ?_
    refine x_get (ci := 0) (Cn := RX1) (T := TX1) (N := 27) (v := .int (F67 12)) C (hR.rdX 0 rfl) rfl in_X1 12 (by decide) q405 (fun _ h9 => h9) rfl dX1_settings_46 ?_
    refine lv_iconst (v := 2) hx hb dX1_settings_49 (by decide) ?_
    refine lv_irem hx hb dX1_settings_50 (by decide) ?_
    refine lv_if_ne (tgt := 58) hx hb dX1_settings_51 (by decide) (fun c71 => ?_) (fun c71 => ?_)
    · replace hw := hw.2 c71
      refine lv_iconst (v := 0) hx hb dX1_settings_58 (by decide) ?_
      exact kX1_settings_b59 C hlt hxt hR hS hk hn (lv_sub hl [0] rfl) hw
    · replace hw := hw.1 c71
      refine lv_iconst (v := 1) hx hb dX1_settings_54 (by decide) ?_
      refine lv_goto (tgt := 59) hx hb dX1_settings_55 (by decide) ?_
      exact kX1_settings_b59 C hlt hxt hR hS hk hn (lv_sub hl [0] rfl) hw
  · replace hw := hw.2 c70
    refine lv_aload_n hx hb dX1_settings_25 rfl (lv_at hl 0 rfl) ?_
    refine lv_aload_n hx hb dX1_settings_26 rfl (lv_at hl 0 rfl) ?_
    refine x_get (ci := 0) (Cn := RX1) (T := TX1) (N := 27) (v := .int (F67 12)) C (hR.rdX 0 rfl) rfl in_X1 12 (by decide) q405 (fun _ h9 => h9) rfl dX1_settings_27 ?_
    refine lv_if_ne (tgt := 37) hx hb dX1_settings_30 (by decide) (fun c72 => ?_) (fun c72 => ?_)
    · replace hw := hw.2 c72
      refine lv_iconst (v := 0) hx hb dX1_settings_37 (by decide) ?_
      exact kX1_settings_b38 C hlt hxt hR hS hk hn (lv_sub hl [] rfl) hw
    · replace hw := hw.1 c72
      refine lv_iconst (v := 1) hx hb dX1_settings_33 (by decide) ?_
      refine lv_goto (tgt := 38) hx hb dX1_settings_34 (by decide) ?_
      exact kX1_settings_b38 C hlt hxt hR hS hk hn (lv_sub hl [] rfl) hw
end
def wX1_settings (post : (Nat → Int32) → (Nat → Nat → Int32) → x_H → Prop) (postX : String → (Nat → Int32) → (Nat → Nat → Int32) → x_H → Prop) (ad : Nat → Nat)  (F : (Nat → Int32)) (M : (Nat → Nat → Int32)) (h : x_H) (mc : Nat) (ms : Nat) : Prop :=
  ((F 11) = 0 → wX1_settings_b13 post postX ad F M h mc ms 1) ∧ (¬ (F 11) = 0 → wX1_settings_b13 post postX ad F M h mc ms 0)
theorem kX1_settings (l : Launch) (D : va_G) (N0 : Nat) (gp : Nat → Nat) (ad : Nat → Nat) (XF : x_X)  (F : (Nat → Int32)) (M : (Nat → Nat → Int32)) (h : x_H) (mc : Nat) (ms : Nat) (post : (Nat → Int32) → (Nat → Nat → Int32) → x_H → Prop) (postX : String → (Nat → Int32) → (Nat → Nat → Int32) → x_H → Prop) (hlt : l.stackTraces = false) (hw : wX1_settings post postX ad F M h mc ms) : vx_Met l yX1_settings (ws_ yX1_settings cX1_settings 5 none) (rmX1_settings mc ms) (x_Pc D N0 gp (fixC ad F M ++ XF) h [.ref (ad 1000)]) (x_Qc D N0 (x_Vv (qCv ad XF post))) (x_XC D N0 (qXC ad XF postX)) mc ms (x_A N0) := by
  refine x_startX (lv := [(0, .ref (ad 1000))]) (by decide) rfl (Nat.le_of_ble_eq_true rfl) rfl ?_
  intro p e s m below meth c C hxt hR ls hl
  have hS : va_S (x_A N0) s.heap s.heap [] := va_S.rf
  obtain ⟨⟨hx, hb, hml, hown, hts⟩, hr, hlocks, hG, hN⟩ := id C
  unfold wX1_settings at hw
  have hk : 0 + mc ≤ mc := Nat.le_of_eq (Nat.zero_add _)
  have hn : 0 + ms ≤ ms := Nat.le_of_eq (Nat.zero_add _)
  refine lv_aload_n hx hb dX1_settings_0 rfl (lv_at hl 0 rfl) ?_
  refine lv_aload_n hx hb dX1_settings_1 rfl (lv_at hl 0 rfl) ?_
  refine x_get (ci := 0) (Cn := RX1) (T := TX1) (N := 27) (v := .int (F 11)) C (hR.rdX 0 rfl) rfl in_X1 11 (by decide) q404 (fun _ h9 => h9) rfl dX1_settings_2 ?_
  refine lv_if_ne (tgt := 12) hx hb dX1_settings_5 (by decide) (fun c62 => ?_) (fun c62 => ?_)
  · replace hw := hw.2 c62
    refine lv_iconst (v := 0) hx hb dX1_settings_12 (by decide) ?_
    exact kX1_settings_b13 C hlt hxt hR hS hk hn (lv_sub hl [0] rfl) hw
  · replace hw := hw.1 c62
    refine lv_iconst (v := 1) hx hb dX1_settings_8 (by decide) ?_
    refine lv_goto (tgt := 13) hx hb dX1_settings_9 (by decide) ?_
    exact kX1_settings_b13 C hlt hxt hR hS hk hn (lv_sub hl [0] rfl) hw
/-- PageServer.ping()V -/
abbrev rmX1_ping (mc0 ms0 : Nat) : Room := { frames := 7, cells := mc0, slots := ms0, locals := 122 }
section
variable {p : Program} {l : Launch} {e : Env} {s : State} {m : MethodId} {args : Array Value} {below : List Frame} {meth : Method} {c : Code} {D : va_G} {N0 : Nat} {gp : Nat → Nat} {ad : Nat → Nat} {XF : x_X} {mc0 ms0 : Nat}
def wX1_ping_b76 (post : (Nat → Int32) → (Nat → Nat → Int32) → x_H → Prop) (postX : String → (Nat → Int32) → (Nat → Nat → Int32) → x_H → Prop) (ad : Nat → Nat)  (F : (Nat → Int32)) (M : (Nat → Nat → Int32)) (h : x_H) (mc : Nat) (ms : Nat) : Prop :=
  post F M h
theorem kX1_ping_b76 {post : (Nat → Int32) → (Nat → Nat → Int32) → x_H → Prop} {postX : String → (Nat → Int32) → (Nat → Nat → Int32) → x_H → Prop} (C : x_C p s m args meth c cX1_ping 2 none RX1 D N0 gp) (hlt : l.stackTraces = false) (hxt : ∀ x ∈ c.exceptionTable.toList, False) {F : (Nat → Int32)} {M : (Nat → Nat → Int32)} {h : x_H} {mc : Nat} {ms : Nat} {k n : Nat} {H : Heap} {locs : List Loc} {ls : Array Slot} (hR : x_R D s N0 (fixC ad F M ++ XF) h H) (hS : va_S (x_A N0) s.heap H locs) (hk : k + mc ≤ mc0) (hn : n + ms ≤ ms0) (hl : lv_has ls 2 []) (hw : wX1_ping_b76 post postX ad F M h mc ms) : W p l e (rmX1_ping mc0 ms0) s m args below meth c H locs k n (vx_MQ below (x_Qc D N0 (x_Vv (qCv ad XF post))) (x_XC D N0 (qXC ad XF postX)) args s mc0 ms0 (x_A N0)) (F0 m 76 ls []) := by
  obtain ⟨⟨hx, hb, hml, hown, hts⟩, hr, hlocks, hG, hN⟩ := id C
  unfold wX1_ping_b76 at hw
  exact vx_ret (x_endv C hR hS ⟨rfl, ⟨_, _, rfl, hw⟩⟩ (x_le hk) (x_le hn) dX1_ping_76)
def tX1_ping_b56 (post : (Nat → Int32) → (Nat → Nat → Int32) → x_H → Prop) (postX : String → (Nat → Int32) → (Nat → Nat → Int32) → x_H → Prop) (K56 : (Nat → Int32) → (Nat → Nat → Int32) → x_H → Nat → Nat → Int32 → Prop) (ad : Nat → Nat)  (F : (Nat → Int32)) (M : (Nat → Nat → Int32)) (h : x_H) (mc : Nat) (ms : Nat) (x1 : Int32) : Prop :=
  ((4 : Int32) ≤ x1 → wX1_ping_b76 post postX ad F M h mc ms) ∧ (¬ (4 : Int32) ≤ x1 → wX1_byteAt (fun r44 => wX1_say (fun F45 M45 h46 => K56 F45 M45 h46 mc ms (x1 + 1)) ad r44 F M h) ad x1 F M h)
def wX1_ping_b56 (post : (Nat → Int32) → (Nat → Nat → Int32) → x_H → Prop) (postX : String → (Nat → Int32) → (Nat → Nat → Int32) → x_H → Prop) (ad : Nat → Nat)  : Nat → (Nat → Int32) → (Nat → Nat → Int32) → x_H → Nat → Nat → Int32 → Prop
  | 0 => fun _ _ _ _ _ _ => False
  | n + 1 => fun F M h mc ms x1 => tX1_ping_b56 post postX (wX1_ping_b56 post postX ad n) ad F M h mc ms x1
theorem kX1_ping_b56 {post : (Nat → Int32) → (Nat → Nat → Int32) → x_H → Prop} {postX : String → (Nat → Int32) → (Nat → Nat → Int32) → x_H → Prop} (C : x_C p s m args meth c cX1_ping 2 none RX1 D N0 gp) (hlt : l.stackTraces = false) (hxt : ∀ x ∈ c.exceptionTable.toList, False) : ∀ (nn : Nat) (F : (Nat → Int32)) (M : (Nat → Nat → Int32)) (h : x_H) (mc : Nat) (ms : Nat) (x1 : Int32) (k n : Nat) (H : Heap) (locs : List Loc) (ls : Array Slot), x_R D s N0 (fixC ad F M ++ XF) h H → va_S (x_A N0) s.heap H locs → k + mc ≤ mc0 → n + ms ≤ ms0 → lv_has ls 2 [(0, .ref (ad 1000)), (1, .int x1)] → wX1_ping_b56 post postX ad nn F M h mc ms x1 → W p l e (rmX1_ping mc0 ms0) s m args below meth c H locs k n (vx_MQ below (x_Qc D N0 (x_Vv (qCv ad XF post))) (x_XC D N0 (qXC ad XF postX)) args s mc0 ms0 (x_A N0)) (F0 m 56 ls []) := by
  obtain ⟨⟨hx, hb, hml, hown, hts⟩, hr, hlocks, hG, hN⟩ := id C
  intro nn
  induction nn with
  | zero =>
    intro F M h mc ms x1 k n H locs ls hR hS hk hn hl hw
    exact False.elim hw
  | succ nn ih =>
    intro F M h mc ms x1 k n H locs ls hR hS hk hn hl hw
    have hK56 := ih
    replace hw : tX1_ping_b56 post postX (wX1_ping_b56 post postX ad nn) ad F M h mc ms x1 := hw
    unfold tX1_ping_b56 at hw
    refine lv_iload_n hx hb dX1_ping_56 rfl (lv_at hl 1 rfl) ?_
    refine lv_iconst (v := 4) hx hb dX1_ping_57 (by decide) ?_
    refine lv_icmp_ge (tgt := 76) hx hb dX1_ping_58 (by decide) (fun c43 => ?_) (fun c43 => ?_)
    · replace hw := hw.1 c43
      exact kX1_ping_b76 C hlt hxt hR hS hk hn (lv_sub hl [] rfl) hw
    · replace hw := hw.2 c43
      refine lv_aload_n hx hb dX1_ping_61 rfl (lv_at hl 0 rfl) ?_
      refine lv_aload_n hx hb dX1_ping_62 rfl (lv_at hl 0 rfl) ?_
      refine lv_iload_n hx hb dX1_ping_63 rfl (lv_at hl 1 rfl) ?_
      refine x_calli0 (x_runV (n := 1) (As := [.int x1]) C hR hS (kX1_byteAt l D N0 gp ad XF x1 F M h _ hw) (lw_V q586 q588 qs16 q85 q589) rfl rfl (by decide +kernel) ⟨Nat.le_of_ble_eq_true rfl, Nat.le_of_ble_eq_true rfl⟩ (x_recv C (hR.rdX 0 rfl) rfl) rfl hl.1 rfl (Nat.le_of_ble_eq_true rfl) dX1_ping_64 ⟨x_bud0 hk, x_bud0 hn⟩) hS (fun r44 X1 h1 H locs hq hR hS => ?_)
      clear hw
      obtain ⟨e1, e2, hw⟩ := hq
      rw [e1, e2] at hR
      refine x_callv0 (x_runV (n := 1) (As := [.int r44]) C hR hS (kX1_say l D N0 gp ad XF r44 F M h _ hw) (lw_V q389 q391 qs5 q85 q392) rfl rfl (by decide +kernel) ⟨Nat.le_of_ble_eq_true rfl, Nat.le_of_ble_eq_true rfl⟩ (x_recv C (hR.rdX 0 rfl) rfl) rfl hl.1 rfl (Nat.le_of_ble_eq_true rfl) dX1_ping_67 ⟨x_bud0 hk, x_bud0 hn⟩) hS (fun X1 h46 H locs hq hR hS => ?_)
      clear hw
      obtain ⟨F45, M45, e1, hw⟩ := hq
      rw [e1] at hR
      refine lv_iinc (v := x1 + 1) (lv' := [(1, .int (x1 + 1)), (0, .ref (ad 1000))]) hx hb dX1_ping_70 hl (k := 1) rfl (x_inc 1 1 (by decide)) (by decide) rfl (fun ls hl => ?_)
      refine lv_goto (tgt := 56) hx hb dX1_ping_73 (by decide) ?_
      exact hK56 _ _ _ _ _ _ _ _ _ _ _ hR hS hk hn (lv_sub hl [1, 0] rfl) hw
def wX1_ping_b31 (post : (Nat → Int32) → (Nat → Nat → Int32) → x_H → Prop) (postX : String → (Nat → Int32) → (Nat → Nat → Int32) → x_H → Prop) (ad : Nat → Nat)  (F : (Nat → Int32)) (M : (Nat → Nat → Int32)) (h : x_H) (mc : Nat) (ms : Nat) (s0 : Int32) : Prop :=
  ∃ ca32 cb33 mc34 ms35 : Nat, ca32 + mc34 ≤ mc ∧ cb33 + ms35 ≤ ms ∧ wX1_must (fun F36 M36 h37 => wX1_has (fun r38 => (r38 = 0 → wX1_head (fun F40 M40 h41 => ∃ n42 : Nat, wX1_ping_b56 post postX ad n42 F40 M40 h41 mc34 ms35 0) ad 4 6 1 0 F36 M36 h37) ∧ (¬ r38 = 0 → post F36 M36 h37)) ad 1 F36 M36 h37) postX ad s0 6 F M h ca32 cb33
theorem kX1_ping_b31 {post : (Nat → Int32) → (Nat → Nat → Int32) → x_H → Prop} {postX : String → (Nat → Int32) → (Nat → Nat → Int32) → x_H → Prop} (C : x_C p s m args meth c cX1_ping 2 none RX1 D N0 gp) (hlt : l.stackTraces = false) (hxt : ∀ x ∈ c.exceptionTable.toList, False) {F : (Nat → Int32)} {M : (Nat → Nat → Int32)} {h : x_H} {mc : Nat} {ms : Nat} {s0 : Int32} {k n : Nat} {H : Heap} {locs : List Loc} {ls : Array Slot} (hR : x_R D s N0 (fixC ad F M ++ XF) h H) (hS : va_S (x_A N0) s.heap H locs) (hk : k + mc ≤ mc0) (hn : n + ms ≤ ms0) (hl : lv_has ls 2 [(0, .ref (ad 1000))]) (hw : wX1_ping_b31 post postX ad F M h mc ms s0) : W p l e (rmX1_ping mc0 ms0) s m args below meth c H locs k n (vx_MQ below (x_Qc D N0 (x_Vv (qCv ad XF post))) (x_XC D N0 (qXC ad XF postX)) args s mc0 ms0 (x_A N0)) (F0 m 31 ls [.int s0, .ref (ad 1000)]) := by
  obtain ⟨⟨hx, hb, hml, hown, hts⟩, hr, hlocks, hG, hN⟩ := id C
  unfold wX1_ping_b31 at hw
  refine lv_bipush (v := 6) hx hb dX1_ping_31 (by decide) ?_
  obtain ⟨ca32, cb33, mc34, ms35, hca32, hcb33, hw⟩ := hw
  refine x_callXv (x_runVX (n := 2) (As := [.int s0, .int 6]) C hR hS (kX1_must l D N0 gp ad XF s0 6 F M h ca32 cb33 _ _ hlt hw) (lw_V q507 q509 qs11 q85 q510) rfl rfl (by decide +kernel) ⟨Nat.le_of_ble_eq_true rfl, Nat.le_of_ble_eq_true rfl⟩ (x_recv C (hR.rdX 0 rfl) rfl) rfl hl.1 rfl (Nat.le_of_ble_eq_true rfl) dX1_ping_33 ⟨x_bud hk hca32, x_bud hn hcb33⟩) hS (fun E9 ce9 q9 X9 h9 H9 locs9 hq9 hR9 hS9 hce9 hcv9 hcl9 => by obtain ⟨F9, M9, e9, hq9⟩ := hq9; rw [e9] at hR9; exact x_outX C hxt hR9 hS9 ⟨_, _, rfl, hq9⟩ hce9 hcv9 hcl9 (x_bud hk hca32) (x_bud hn hcb33)) (fun X1 h37 H locs hq hR hS => ?_)
  clear hw
  obtain ⟨F36, M36, e1, hw⟩ := hq
  rw [e1] at hR
  have hk := x_budN hk hca32
  have hn := x_budN hn hcb33
  refine lv_aload_n hx hb dX1_ping_36 rfl (lv_at hl 0 rfl) ?_
  refine lv_iconst (v := 1) hx hb dX1_ping_37 (by decide) ?_
  refine x_calli0 (x_runV (n := 1) (As := [.int 1]) C hR hS (kX1_has l D N0 gp ad XF 1 F36 M36 h37 _ hw) (lw_V q503 q505 qs10 q85 q506) rfl rfl (by decide +kernel) ⟨Nat.le_of_ble_eq_true rfl, Nat.le_of_ble_eq_true rfl⟩ (x_recv C (hR.rdX 0 rfl) rfl) rfl hl.1 rfl (Nat.le_of_ble_eq_true rfl) dX1_ping_38 ⟨x_bud0 hk, x_bud0 hn⟩) hS (fun r38 X1 h1 H locs hq hR hS => ?_)
  clear hw
  obtain ⟨e1, e2, hw⟩ := hq
  rw [e1, e2] at hR
  refine lv_if_eq (tgt := 45) hx hb dX1_ping_41 (by decide) (fun c39 => ?_) (fun c39 => ?_)
  · replace hw := hw.1 c39
    refine lv_aload_n hx hb dX1_ping_45 rfl (lv_at hl 0 rfl) ?_
    refine lv_iconst (v := 4) hx hb dX1_ping_46 (by decide) ?_
    refine lv_bipush (v := 6) hx hb dX1_ping_47 (by decide) ?_
    refine lv_iconst (v := 1) hx hb dX1_ping_49 (by decide) ?_
    refine lv_iconst (v := 0) hx hb dX1_ping_50 (by decide) ?_
    refine x_callv0 (x_runV (n := 4) (As := [.int 4, .int 6, .int 1, .int 0]) C hR hS (kX1_head l D N0 gp ad XF 4 6 1 0 F36 M36 h37 _ hw) (lw_V q385 q387 qs4 q85 q388) rfl rfl (by decide +kernel) ⟨Nat.le_of_ble_eq_true rfl, Nat.le_of_ble_eq_true rfl⟩ (x_recv C (hR.rdX 0 rfl) rfl) rfl hl.1 rfl (Nat.le_of_ble_eq_true rfl) dX1_ping_51 ⟨x_bud0 hk, x_bud0 hn⟩) hS (fun X1 h41 H locs hq hR hS => ?_)
    clear hw
    obtain ⟨F40, M40, e1, hw⟩ := hq
    rw [e1] at hR
    refine lv_iconst (v := 0) hx hb dX1_ping_54 (by decide) ?_
    refine lv_istore_n (lv' := [(1, .int 0), (0, .ref (ad 1000))]) hx hb dX1_ping_55 rfl hl (by decide) rfl (fun ls hl => ?_)
    obtain ⟨n42, hw⟩ := hw
    exact kX1_ping_b56 C hlt hxt n42 _ _ _ _ _ _ _ _ _ _ _ hR hS hk hn (lv_sub hl [1, 0] rfl) hw
  · replace hw := hw.2 c39
    exact vx_ret (x_endv C hR hS ⟨rfl, ⟨_, _, rfl, hw⟩⟩ (x_le hk) (x_le hn) dX1_ping_44)
def wX1_ping_b13 (post : (Nat → Int32) → (Nat → Nat → Int32) → x_H → Prop) (postX : String → (Nat → Int32) → (Nat → Nat → Int32) → x_H → Prop) (ad : Nat → Nat)  (F : (Nat → Int32)) (M : (Nat → Nat → Int32)) (h : x_H) (mc : Nat) (ms : Nat) (s0 : Int32) : Prop :=
  ∃ ca25 cb26 mc27 ms28 : Nat, ca25 + mc27 ≤ mc ∧ cb26 + ms28 ≤ ms ∧ wX1_must (fun F29 M29 h30 => ((F29 12) = 4 → wX1_ping_b31 post postX ad F29 M29 h30 mc27 ms28 1) ∧ (¬ (F29 12) = 4 → wX1_ping_b31 post postX ad F29 M29 h30 mc27 ms28 0)) postX ad s0 1 F M h ca25 cb26
theorem kX1_ping_b13 {post : (Nat → Int32) → (Nat → Nat → Int32) → x_H → Prop} {postX : String → (Nat → Int32) → (Nat → Nat → Int32) → x_H → Prop} (C : x_C p s m args meth c cX1_ping 2 none RX1 D N0 gp) (hlt : l.stackTraces = false) (hxt : ∀ x ∈ c.exceptionTable.toList, False) {F : (Nat → Int32)} {M : (Nat → Nat → Int32)} {h : x_H} {mc : Nat} {ms : Nat} {s0 : Int32} {k n : Nat} {H : Heap} {locs : List Loc} {ls : Array Slot} (hR : x_R D s N0 (fixC ad F M ++ XF) h H) (hS : va_S (x_A N0) s.heap H locs) (hk : k + mc ≤ mc0) (hn : n + ms ≤ ms0) (hl : lv_has ls 2 [(0, .ref (ad 1000))]) (hw : wX1_ping_b13 post postX ad F M h mc ms s0) : W p l e (rmX1_ping mc0 ms0) s m args below meth c H locs k n (vx_MQ below (x_Qc D N0 (x_Vv (qCv ad XF post))) (x_XC D N0 (qXC ad XF postX)) args s mc0 ms0 (x_A N0)) (F0 m 13 ls [.int s0, .ref (ad 1000)]) := by
  obtain ⟨⟨hx, hb, hml, hown, hts⟩, hr, hlocks, hG, hN⟩ := id C
  unfold wX1_ping_b13 at hw
  refine lv_iconst (v := 1) hx hb dX1_ping_13 (by decide) ?_
  obtain ⟨ca25, cb26, mc27, ms28, hca25, hcb26, hw⟩ := hw
  refine x_callXv (x_runVX (n := 2) (As := [.int s0, .int 1]) C hR hS (kX1_must l D N0 gp ad XF s0 1 F M h ca25 cb26 _ _ hlt hw) (lw_V q507 q509 qs11 q85 q510) rfl rfl (by decide +kernel) ⟨Nat.le_of_ble_eq_true rfl, Nat.le_of_ble_eq_true rfl⟩ (x_recv C (hR.rdX 0 rfl) rfl) rfl hl.1 rfl (Nat.le_of_ble_eq_true rfl) dX1_ping_14 ⟨x_bud hk hca25, x_bud hn hcb26⟩) hS (fun E9 ce9 q9 X9 h9 H9 locs9 hq9 hR9 hS9 hce9 hcv9 hcl9 => by obtain ⟨F9, M9, e9, hq9⟩ := hq9; rw [e9] at hR9; exact x_outX C hxt hR9 hS9 ⟨_, _, rfl, hq9⟩ hce9 hcv9 hcl9 (x_bud hk hca25) (x_bud hn hcb26)) (fun X1 h30 H locs hq hR hS => ?_)
  clear hw
  obtain ⟨F29, M29, e1, hw⟩ := hq
  rw [e1] at hR
  have hk := x_budN hk hca25
  have hn := x_budN hn hcb26
  refine lv_aload_n hx hb dX1_ping_17 rfl (lv_at hl 0 rfl) ?_
  refine lv_aload_n hx hb dX1_ping_18 rfl (lv_at hl 0 rfl) ?_
  refine x_get (ci := 0) (Cn := RX1) (T := TX1) (N := 27) (v := .int (F29 12)) C (hR.rdX 0 rfl) rfl in_X1 12 (by decide) q405 (fun _ h9 => h9) rfl dX1_ping_19 ?_
  refine lv_iconst (v := 4) hx hb dX1_ping_22 (by decide) ?_
  refine lv_icmp_ne (tgt := 30) hx hb dX1_ping_23 (by decide) (fun c31 => ?_) (fun c31 => ?_)
  · replace hw := hw.2 c31
    refine lv_iconst (v := 0) hx hb dX1_ping_30 (by decide) ?_
    exact kX1_ping_b31 C hlt hxt hR hS hk hn (lv_sub hl [0] rfl) hw
  · replace hw := hw.1 c31
    refine lv_iconst (v := 1) hx hb dX1_ping_26 (by decide) ?_
    refine lv_goto (tgt := 31) hx hb dX1_ping_27 (by decide) ?_
    exact kX1_ping_b31 C hlt hxt hR hS hk hn (lv_sub hl [0] rfl) hw
end
def wX1_ping (post : (Nat → Int32) → (Nat → Nat → Int32) → x_H → Prop) (postX : String → (Nat → Int32) → (Nat → Nat → Int32) → x_H → Prop) (ad : Nat → Nat)  (F : (Nat → Int32)) (M : (Nat → Nat → Int32)) (h : x_H) (mc : Nat) (ms : Nat) : Prop :=
  ((F 11) = 0 → wX1_ping_b13 post postX ad F M h mc ms 1) ∧ (¬ (F 11) = 0 → wX1_ping_b13 post postX ad F M h mc ms 0)
theorem kX1_ping (l : Launch) (D : va_G) (N0 : Nat) (gp : Nat → Nat) (ad : Nat → Nat) (XF : x_X)  (F : (Nat → Int32)) (M : (Nat → Nat → Int32)) (h : x_H) (mc : Nat) (ms : Nat) (post : (Nat → Int32) → (Nat → Nat → Int32) → x_H → Prop) (postX : String → (Nat → Int32) → (Nat → Nat → Int32) → x_H → Prop) (hlt : l.stackTraces = false) (hw : wX1_ping post postX ad F M h mc ms) : vx_Met l yX1_ping (ws_ yX1_ping cX1_ping 2 none) (rmX1_ping mc ms) (x_Pc D N0 gp (fixC ad F M ++ XF) h [.ref (ad 1000)]) (x_Qc D N0 (x_Vv (qCv ad XF post))) (x_XC D N0 (qXC ad XF postX)) mc ms (x_A N0) := by
  refine x_startX (lv := [(0, .ref (ad 1000))]) (by decide) rfl (Nat.le_of_ble_eq_true rfl) rfl ?_
  intro p e s m below meth c C hxt hR ls hl
  have hS : va_S (x_A N0) s.heap s.heap [] := va_S.rf
  obtain ⟨⟨hx, hb, hml, hown, hts⟩, hr, hlocks, hG, hN⟩ := id C
  unfold wX1_ping at hw
  have hk : 0 + mc ≤ mc := Nat.le_of_eq (Nat.zero_add _)
  have hn : 0 + ms ≤ ms := Nat.le_of_eq (Nat.zero_add _)
  refine lv_aload_n hx hb dX1_ping_0 rfl (lv_at hl 0 rfl) ?_
  refine lv_aload_n hx hb dX1_ping_1 rfl (lv_at hl 0 rfl) ?_
  refine x_get (ci := 0) (Cn := RX1) (T := TX1) (N := 27) (v := .int (F 11)) C (hR.rdX 0 rfl) rfl in_X1 11 (by decide) q404 (fun _ h9 => h9) rfl dX1_ping_2 ?_
  refine lv_if_ne (tgt := 12) hx hb dX1_ping_5 (by decide) (fun c24 => ?_) (fun c24 => ?_)
  · replace hw := hw.2 c24
    refine lv_iconst (v := 0) hx hb dX1_ping_12 (by decide) ?_
    exact kX1_ping_b13 C hlt hxt hR hS hk hn (lv_sub hl [0] rfl) hw
  · replace hw := hw.1 c24
    refine lv_iconst (v := 1) hx hb dX1_ping_8 (by decide) ?_
    refine lv_goto (tgt := 13) hx hb dX1_ping_9 (by decide) ?_
    exact kX1_ping_b13 C hlt hxt hR hS hk hn (lv_sub hl [0] rfl) hw
/-- PageServer.widen()V -/
abbrev rmX1_widen (mc0 ms0 : Nat) : Room := { frames := 7, cells := mc0, slots := ms0, locals := 122 }
section
variable {p : Program} {l : Launch} {e : Env} {s : State} {m : MethodId} {args : Array Value} {below : List Frame} {meth : Method} {c : Code} {D : va_G} {N0 : Nat} {gp : Nat → Nat} {ad : Nat → Nat} {XF : x_X} {mc0 ms0 : Nat}
def wX1_widen_b171 (post : (Nat → Int32) → (Nat → Nat → Int32) → x_H → Prop) (postX : String → (Nat → Int32) → (Nat → Nat → Int32) → x_H → Prop) (ad : Nat → Nat)  (F : (Nat → Int32)) (M : (Nat → Nat → Int32)) (h : x_H) (mc : Nat) (ms : Nat) : Prop :=
  post F M h
theorem kX1_widen_b171 {post : (Nat → Int32) → (Nat → Nat → Int32) → x_H → Prop} {postX : String → (Nat → Int32) → (Nat → Nat → Int32) → x_H → Prop} (C : x_C p s m args meth c cX1_widen 3 none RX1 D N0 gp) (hlt : l.stackTraces = false) (hxt : ∀ x ∈ c.exceptionTable.toList, False) {F : (Nat → Int32)} {M : (Nat → Nat → Int32)} {h : x_H} {mc : Nat} {ms : Nat} {k n : Nat} {H : Heap} {locs : List Loc} {ls : Array Slot} (hR : x_R D s N0 (fixC ad F M ++ XF) h H) (hS : va_S (x_A N0) s.heap H locs) (hk : k + mc ≤ mc0) (hn : n + ms ≤ ms0) (hl : lv_has ls 3 []) (hw : wX1_widen_b171 post postX ad F M h mc ms) : W p l e (rmX1_widen mc0 ms0) s m args below meth c H locs k n (vx_MQ below (x_Qc D N0 (x_Vv (qCv ad XF post))) (x_XC D N0 (qXC ad XF postX)) args s mc0 ms0 (x_A N0)) (F0 m 171 ls []) := by
  obtain ⟨⟨hx, hb, hml, hown, hts⟩, hr, hlocks, hG, hN⟩ := id C
  unfold wX1_widen_b171 at hw
  exact vx_ret (x_endv C hR hS ⟨rfl, ⟨_, _, rfl, hw⟩⟩ (x_le hk) (x_le hn) dX1_widen_171)
def wX1_widen_b104 (post : (Nat → Int32) → (Nat → Nat → Int32) → x_H → Prop) (postX : String → (Nat → Int32) → (Nat → Nat → Int32) → x_H → Prop) (ad : Nat → Nat)  (F : (Nat → Int32)) (M : (Nat → Nat → Int32)) (h : x_H) (mc : Nat) (ms : Nat) (x1 : Int32) (s0 : Int32) : Prop :=
  ∃ ca88 cb89 mc90 ms91 : Nat, ca88 + mc90 ≤ mc ∧ cb89 + ms91 ≤ ms ∧ wX1_must (fun F92 M92 h93 => wX1_widen_b171 post postX ad (upd F92 22 ((F92 22) + x1)) M92 h93 mc90 ms91) postX ad s0 3 F M h ca88 cb89
theorem kX1_widen_b104 {post : (Nat → Int32) → (Nat → Nat → Int32) → x_H → Prop} {postX : String → (Nat → Int32) → (Nat → Nat → Int32) → x_H → Prop} (C : x_C p s m args meth c cX1_widen 3 none RX1 D N0 gp) (hlt : l.stackTraces = false) (hxt : ∀ x ∈ c.exceptionTable.toList, False) {F : (Nat → Int32)} {M : (Nat → Nat → Int32)} {h : x_H} {mc : Nat} {ms : Nat} {x1 : Int32} {s0 : Int32} {k n : Nat} {H : Heap} {locs : List Loc} {ls : Array Slot} (hR : x_R D s N0 (fixC ad F M ++ XF) h H) (hS : va_S (x_A N0) s.heap H locs) (hk : k + mc ≤ mc0) (hn : n + ms ≤ ms0) (hl : lv_has ls 3 [(0, .ref (ad 1000)), (1, .int x1)]) (hw : wX1_widen_b104 post postX ad F M h mc ms x1 s0) : W p l e (rmX1_widen mc0 ms0) s m args below meth c H locs k n (vx_MQ below (x_Qc D N0 (x_Vv (qCv ad XF post))) (x_XC D N0 (qXC ad XF postX)) args s mc0 ms0 (x_A N0)) (F0 m 104 ls [.int s0, .ref (ad 1000)]) := by
  obtain ⟨⟨hx, hb, hml, hown, hts⟩, hr, hlocks, hG, hN⟩ := id C
  unfold wX1_widen_b104 at hw
  refine lv_iconst (v := 3) hx hb dX1_widen_104 (by decide) ?_
  obtain ⟨ca88, cb89, mc90, ms91, hca88, hcb89, hw⟩ := hw
  refine x_callXv (x_runVX (n := 2) (As := [.int s0, .int 3]) C hR hS (kX1_must l D N0 gp ad XF s0 3 F M h ca88 cb89 _ _ hlt hw) (lw_V q507 q509 qs11 q85 q510) rfl rfl (by decide +kernel) ⟨Nat.le_of_ble_eq_true rfl, Nat.le_of_ble_eq_true rfl⟩ (x_recv C (hR.rdX 0 rfl) rfl) rfl hl.1 rfl (Nat.le_of_ble_eq_true rfl) dX1_widen_105 ⟨x_bud hk hca88, x_bud hn hcb89⟩) hS (fun E9 ce9 q9 X9 h9 H9 locs9 hq9 hR9 hS9 hce9 hcv9 hcl9 => by obtain ⟨F9, M9, e9, hq9⟩ := hq9; rw [e9] at hR9; exact x_outX C hxt hR9 hS9 ⟨_, _, rfl, hq9⟩ hce9 hcv9 hcl9 (x_bud hk hca88) (x_bud hn hcb89)) (fun X1 h93 H locs hq hR hS => ?_)
  clear hw
  obtain ⟨F92, M92, e1, hw⟩ := hq
  rw [e1] at hR
  have hk := x_budN hk hca88
  have hn := x_budN hn hcb89
  refine lv_aload_n hx hb dX1_widen_108 rfl (lv_at hl 0 rfl) ?_
  refine lv_dup hx hb dX1_widen_109 rfl ?_
  refine x_get (ci := 0) (Cn := RX1) (T := TX1) (N := 27) (v := .int (F92 22)) C (hR.rdX 0 rfl) rfl in_X1 22 (by decide) q415 (fun _ h9 => h9) rfl dX1_widen_110 ?_
  refine lv_iload_n hx hb dX1_widen_113 rfl (lv_at hl 1 rfl) ?_
  refine lv_iadd hx hb dX1_widen_114 ?_
  refine x_putX (ci := 0) (Cn := RX1) (T := TX1) (N := 27) (v := .int ((F92 22) + x1)) C hR hS 0 rfl rfl in_X1 tyX1_ok nmX1 22 (by decide) q415 (fun _ h9 => h9) rfl rfl rfl (Nat.le_of_ble_eq_true rfl) (sC_f22 ..) dX1_widen_115 (fun H locs hR hS => ?_)
  refine lv_goto (tgt := 171) hx hb dX1_widen_118 (by decide) ?_
  exact kX1_widen_b171 C hlt hxt hR hS hk hn (lv_sub hl [] rfl) hw
def wX1_widen_b82 (post : (Nat → Int32) → (Nat → Nat → Int32) → x_H → Prop) (postX : String → (Nat → Int32) → (Nat → Nat → Int32) → x_H → Prop) (ad : Nat → Nat)  (F : (Nat → Int32)) (M : (Nat → Nat → Int32)) (h : x_H) (mc : Nat) (ms : Nat) (x1 : Int32) (s0 : Int32) : Prop :=
  ∃ ca81 cb82 mc83 ms84 : Nat, ca81 + mc83 ≤ mc ∧ cb82 + ms84 ≤ ms ∧ wX1_must (fun F85 M85 h86 => ((30000 : Int32) < ((F85 22) + x1) → wX1_widen_b104 post postX ad F85 M85 h86 mc83 ms84 x1 0) ∧ (¬ (30000 : Int32) < ((F85 22) + x1) → wX1_widen_b104 post postX ad F85 M85 h86 mc83 ms84 x1 1)) postX ad s0 1 F M h ca81 cb82
theorem kX1_widen_b82 {post : (Nat → Int32) → (Nat → Nat → Int32) → x_H → Prop} {postX : String → (Nat → Int32) → (Nat → Nat → Int32) → x_H → Prop} (C : x_C p s m args meth c cX1_widen 3 none RX1 D N0 gp) (hlt : l.stackTraces = false) (hxt : ∀ x ∈ c.exceptionTable.toList, False) {F : (Nat → Int32)} {M : (Nat → Nat → Int32)} {h : x_H} {mc : Nat} {ms : Nat} {x1 : Int32} {s0 : Int32} {k n : Nat} {H : Heap} {locs : List Loc} {ls : Array Slot} (hR : x_R D s N0 (fixC ad F M ++ XF) h H) (hS : va_S (x_A N0) s.heap H locs) (hk : k + mc ≤ mc0) (hn : n + ms ≤ ms0) (hl : lv_has ls 3 [(0, .ref (ad 1000)), (1, .int x1)]) (hw : wX1_widen_b82 post postX ad F M h mc ms x1 s0) : W p l e (rmX1_widen mc0 ms0) s m args below meth c H locs k n (vx_MQ below (x_Qc D N0 (x_Vv (qCv ad XF post))) (x_XC D N0 (qXC ad XF postX)) args s mc0 ms0 (x_A N0)) (F0 m 82 ls [.int s0, .ref (ad 1000)]) := by
  obtain ⟨⟨hx, hb, hml, hown, hts⟩, hr, hlocks, hG, hN⟩ := id C
  unfold wX1_widen_b82 at hw
  refine lv_iconst (v := 1) hx hb dX1_widen_82 (by decide) ?_
  obtain ⟨ca81, cb82, mc83, ms84, hca81, hcb82, hw⟩ := hw
  refine x_callXv (x_runVX (n := 2) (As := [.int s0, .int 1]) C hR hS (kX1_must l D N0 gp ad XF s0 1 F M h ca81 cb82 _ _ hlt hw) (lw_V q507 q509 qs11 q85 q510) rfl rfl (by decide +kernel) ⟨Nat.le_of_ble_eq_true rfl, Nat.le_of_ble_eq_true rfl⟩ (x_recv C (hR.rdX 0 rfl) rfl) rfl hl.1 rfl (Nat.le_of_ble_eq_true rfl) dX1_widen_83 ⟨x_bud hk hca81, x_bud hn hcb82⟩) hS (fun E9 ce9 q9 X9 h9 H9 locs9 hq9 hR9 hS9 hce9 hcv9 hcl9 => by obtain ⟨F9, M9, e9, hq9⟩ := hq9; rw [e9] at hR9; exact x_outX C hxt hR9 hS9 ⟨_, _, rfl, hq9⟩ hce9 hcv9 hcl9 (x_bud hk hca81) (x_bud hn hcb82)) (fun X1 h86 H locs hq hR hS => ?_)
  clear hw
  obtain ⟨F85, M85, e1, hw⟩ := hq
  rw [e1] at hR
  have hk := x_budN hk hca81
  have hn := x_budN hn hcb82
  refine lv_aload_n hx hb dX1_widen_86 rfl (lv_at hl 0 rfl) ?_
  refine lv_aload_n hx hb dX1_widen_87 rfl (lv_at hl 0 rfl) ?_
  refine x_get (ci := 0) (Cn := RX1) (T := TX1) (N := 27) (v := .int (F85 22)) C (hR.rdX 0 rfl) rfl in_X1 22 (by decide) q415 (fun _ h9 => h9) rfl dX1_widen_88 ?_
  refine lv_iload_n hx hb dX1_widen_91 rfl (lv_at hl 1 rfl) ?_
  refine lv_iadd hx hb dX1_widen_92 ?_
  refine lv_sipush (v := 30000) hx hb dX1_widen_93 (by decide) ?_
  refine lv_icmp_gt (tgt := 103) hx hb dX1_widen_96 (by decide) (fun c87 => ?_) (fun c87 => ?_)
  · replace hw := hw.1 c87
    refine lv_iconst (v := 0) hx hb dX1_widen_103 (by decide) ?_
    exact kX1_widen_b104 C hlt hxt hR hS hk hn (lv_sub hl [0, 1] rfl) hw
  · replace hw := hw.2 c87
    refine lv_iconst (v := 1) hx hb dX1_widen_99 (by decide) ?_
    refine lv_goto (tgt := 104) hx hb dX1_widen_100 (by decide) ?_
    exact kX1_widen_b104 C hlt hxt hR hS hk hn (lv_sub hl [0, 1] rfl) hw
def wX1_widen_b157 (post : (Nat → Int32) → (Nat → Nat → Int32) → x_H → Prop) (postX : String → (Nat → Int32) → (Nat → Nat → Int32) → x_H → Prop) (ad : Nat → Nat)  (F : (Nat → Int32)) (M : (Nat → Nat → Int32)) (h : x_H) (mc : Nat) (ms : Nat) (x1 : Int32) (x2 : Nat) (s0 : Int32) : Prop :=
  ∃ ca103 cb104 mc105 ms106 : Nat, ca103 + mc105 ≤ mc ∧ cb104 + ms106 ≤ ms ∧ wX1_want (fun F107 M107 h108 => ∃ y110 : Int32, x_f h108 x2 4 1 (.int y110) ∧ ∃ (t111 : Nat) (fs112 : List Value), h108 x2 = some (t111, .inr (4, fs112)) ∧ t111 ≠ 1 ∧ 1 < fs112.length ∧ ∀ h116 : x_H, h116 = x_hs h108 x2 t111 (.inr (4, fs112.set 1 (.int (y110 + x1)))) → wX1_widen_b171 post postX ad F107 M107 h116 mc105 ms106) postX ad s0 3 F M h ca103 cb104
theorem kX1_widen_b157 {post : (Nat → Int32) → (Nat → Nat → Int32) → x_H → Prop} {postX : String → (Nat → Int32) → (Nat → Nat → Int32) → x_H → Prop} (C : x_C p s m args meth c cX1_widen 3 none RX1 D N0 gp) (hlt : l.stackTraces = false) (hxt : ∀ x ∈ c.exceptionTable.toList, False) {F : (Nat → Int32)} {M : (Nat → Nat → Int32)} {h : x_H} {mc : Nat} {ms : Nat} {x1 : Int32} {x2 : Nat} {s0 : Int32} {k n : Nat} {H : Heap} {locs : List Loc} {ls : Array Slot} (hR : x_R D s N0 (fixC ad F M ++ XF) h H) (hS : va_S (x_A N0) s.heap H locs) (hk : k + mc ≤ mc0) (hn : n + ms ≤ ms0) (hl : lv_has ls 3 [(1, .int x1), (2, .ref x2)]) (hw : wX1_widen_b157 post postX ad F M h mc ms x1 x2 s0) : W p l e (rmX1_widen mc0 ms0) s m args below meth c H locs k n (vx_MQ below (x_Qc D N0 (x_Vv (qCv ad XF post))) (x_XC D N0 (qXC ad XF postX)) args s mc0 ms0 (x_A N0)) (F0 m 157 ls [.int s0, .ref (ad 1000)]) := by
  obtain ⟨⟨hx, hb, hml, hown, hts⟩, hr, hlocks, hG, hN⟩ := id C
  unfold wX1_widen_b157 at hw
  refine lv_iconst (v := 3) hx hb dX1_widen_157 (by decide) ?_
  obtain ⟨ca103, cb104, mc105, ms106, hca103, hcb104, hw⟩ := hw
  refine x_callXv (x_runVX (n := 2) (As := [.int s0, .int 3]) C hR hS (kX1_want l D N0 gp ad XF s0 3 F M h ca103 cb104 _ _ hlt hw) (lw_V q606 q608 qs19 q85 q609) rfl rfl (by decide +kernel) ⟨Nat.le_of_ble_eq_true rfl, Nat.le_of_ble_eq_true rfl⟩ (x_recv C (hR.rdX 0 rfl) rfl) rfl hl.1 rfl (Nat.le_of_ble_eq_true rfl) dX1_widen_158 ⟨x_bud hk hca103, x_bud hn hcb104⟩) hS (fun E9 ce9 q9 X9 h9 H9 locs9 hq9 hR9 hS9 hce9 hcv9 hcl9 => by obtain ⟨F9, M9, e9, hq9⟩ := hq9; rw [e9] at hR9; exact x_outX C hxt hR9 hS9 ⟨_, _, rfl, hq9⟩ hce9 hcv9 hcl9 (x_bud hk hca103) (x_bud hn hcb104)) (fun X1 h108 H locs hq hR hS => ?_)
  clear hw
  obtain ⟨F107, M107, e1, hw⟩ := hq
  rw [e1] at hR
  have hk := x_budN hk hca103
  have hn := x_budN hn hcb104
  refine lv_aload_n hx hb dX1_widen_161 rfl (lv_at hl 1 rfl) ?_
  refine lv_dup hx hb dX1_widen_162 rfl ?_
  obtain ⟨y110, hf109, hw⟩ := hw
  refine x_getHN (ci := 4) (Cn := RX5) (T := TX5) (N := 9) (k := 1) C hR hf109 rfl in_X5 (by decide) (x_nest C q322 rfl) (fun _ h9 => h9) dX1_widen_163 ?_
  refine lv_iload_n hx hb dX1_widen_166 rfl (lv_at hl 0 rfl) ?_
  refine lv_iadd hx hb dX1_widen_167 ?_
  obtain ⟨t111, fs112, he113, ht114, hl115, hw⟩ := hw
  refine x_putHN (ci := 4) (Cn := RX5) (T := TX5) (N := 9) (v := .int (y110 + x1)) C hR hS he113 ht114 rfl in_X5 tyX5_ok nmX5 1 (by decide) (x_nest C q322 rfl) (fun _ h9 => h9) rfl rfl rfl hl115 dX1_widen_168 (fun H locs hR hS => ?_)
  obtain ⟨h116, eh116⟩ : ∃ z, z = x_hs h108 x2 t111 (.inr (4, fs112.set 1 (.int (y110 + x1)))) := ⟨_, rfl⟩
  rw [← eh116] at hR
  replace hw := hw h116 eh116
  exact kX1_widen_b171 C hlt hxt hR hS hk hn (lv_sub hl [] rfl) hw
def wX1_widen_b135 (post : (Nat → Int32) → (Nat → Nat → Int32) → x_H → Prop) (postX : String → (Nat → Int32) → (Nat → Nat → Int32) → x_H → Prop) (ad : Nat → Nat)  (F : (Nat → Int32)) (M : (Nat → Nat → Int32)) (h : x_H) (mc : Nat) (ms : Nat) (x1 : Int32) (x2 : Nat) (s0 : Int32) : Prop :=
  ∃ ca94 cb95 mc96 ms97 : Nat, ca94 + mc96 ≤ mc ∧ cb95 + ms97 ≤ ms ∧ wX1_want (fun F98 M98 h99 => ∃ y101 : Int32, x_f h99 x2 4 1 (.int y101) ∧ ((30000 : Int32) < (y101 + x1) → wX1_widen_b157 post postX ad F98 M98 h99 mc96 ms97 x1 x2 0) ∧ (¬ (30000 : Int32) < (y101 + x1) → wX1_widen_b157 post postX ad F98 M98 h99 mc96 ms97 x1 x2 1)) postX ad s0 1 F M h ca94 cb95
theorem kX1_widen_b135 {post : (Nat → Int32) → (Nat → Nat → Int32) → x_H → Prop} {postX : String → (Nat → Int32) → (Nat → Nat → Int32) → x_H → Prop} (C : x_C p s m args meth c cX1_widen 3 none RX1 D N0 gp) (hlt : l.stackTraces = false) (hxt : ∀ x ∈ c.exceptionTable.toList, False) {F : (Nat → Int32)} {M : (Nat → Nat → Int32)} {h : x_H} {mc : Nat} {ms : Nat} {x1 : Int32} {x2 : Nat} {s0 : Int32} {k n : Nat} {H : Heap} {locs : List Loc} {ls : Array Slot} (hR : x_R D s N0 (fixC ad F M ++ XF) h H) (hS : va_S (x_A N0) s.heap H locs) (hk : k + mc ≤ mc0) (hn : n + ms ≤ ms0) (hl : lv_has ls 3 [(0, .ref (ad 1000)), (1, .int x1), (2, .ref x2)]) (hw : wX1_widen_b135 post postX ad F M h mc ms x1 x2 s0) : W p l e (rmX1_widen mc0 ms0) s m args below meth c H locs k n (vx_MQ below (x_Qc D N0 (x_Vv (qCv ad XF post))) (x_XC D N0 (qXC ad XF postX)) args s mc0 ms0 (x_A N0)) (F0 m 135 ls [.int s0, .ref (ad 1000)]) := by
  obtain ⟨⟨hx, hb, hml, hown, hts⟩, hr, hlocks, hG, hN⟩ := id C
  unfold wX1_widen_b135 at hw
  refine lv_iconst (v := 1) hx hb dX1_widen_135 (by decide) ?_
  obtain ⟨ca94, cb95, mc96, ms97, hca94, hcb95, hw⟩ := hw
  refine x_callXv (x_runVX (n := 2) (As := [.int s0, .int 1]) C hR hS (kX1_want l D N0 gp ad XF s0 1 F M h ca94 cb95 _ _ hlt hw) (lw_V q606 q608 qs19 q85 q609) rfl rfl (by decide +kernel) ⟨Nat.le_of_ble_eq_true rfl, Nat.le_of_ble_eq_true rfl⟩ (x_recv C (hR.rdX 0 rfl) rfl) rfl hl.1 rfl (Nat.le_of_ble_eq_true rfl) dX1_widen_136 ⟨x_bud hk hca94, x_bud hn hcb95⟩) hS (fun E9 ce9 q9 X9 h9 H9 locs9 hq9 hR9 hS9 hce9 hcv9 hcl9 => by obtain ⟨F9, M9, e9, hq9⟩ := hq9; rw [e9] at hR9; exact x_outX C hxt hR9 hS9 ⟨_, _, rfl, hq9⟩ hce9 hcv9 hcl9 (x_bud hk hca94) (x_bud hn hcb95)) (fun X1 h99 H locs hq hR hS => ?_)
  clear hw
  obtain ⟨F98, M98, e1, hw⟩ := hq
  rw [e1] at hR
  have hk := x_budN hk hca94
  have hn := x_budN hn hcb95
  refine lv_aload_n hx hb dX1_widen_139 rfl (lv_at hl 0 rfl) ?_
  refine lv_aload_n hx hb dX1_widen_140 rfl (lv_at hl 2 rfl) ?_
  obtain ⟨y101, hf100, hw⟩ := hw
  refine x_getHN (ci := 4) (Cn := RX5) (T := TX5) (N := 9) (k := 1) C hR hf100 rfl in_X5 (by decide) (x_nest C q322 rfl) (fun _ h9 => h9) dX1_widen_141 ?_
  refine lv_iload_n hx hb dX1_widen_144 rfl (lv_at hl 1 rfl) ?_
  refine lv_iadd hx hb dX1_widen_145 ?_
  refine lv_sipush (v := 30000) hx hb dX1_widen_146 (by decide) ?_
  refine lv_icmp_gt (tgt := 156) hx hb dX1_widen_149 (by decide) (fun c102 => ?_) (fun c102 => ?_)
  · replace hw := hw.1 c102
    refine lv_iconst (v := 0) hx hb dX1_widen_156 (by decide) ?_
    exact kX1_widen_b157 C hlt hxt hR hS hk hn (lv_sub hl [1, 2] rfl) hw
  · replace hw := hw.2 c102
    refine lv_iconst (v := 1) hx hb dX1_widen_152 (by decide) ?_
    refine lv_goto (tgt := 157) hx hb dX1_widen_153 (by decide) ?_
    exact kX1_widen_b157 C hlt hxt hR hS hk hn (lv_sub hl [1, 2] rfl) hw
def wX1_widen_b36 (post : (Nat → Int32) → (Nat → Nat → Int32) → x_H → Prop) (postX : String → (Nat → Int32) → (Nat → Nat → Int32) → x_H → Prop) (ad : Nat → Nat)  (F : (Nat → Int32)) (M : (Nat → Nat → Int32)) (h : x_H) (mc : Nat) (ms : Nat) (s0 : Int32) : Prop :=
  ∃ ca68 cb69 mc70 ms71 : Nat, ca68 + mc70 ≤ mc ∧ cb69 + ms71 ≤ ms ∧ wX1_must (fun F72 M72 h73 => wX1_byteAt (fun r74 => wX1_byteAt (fun r75 => wX1_known (fun r76 => ((F72 11) = 0 → (((r74 * 256) + r75) ≤ 0 → wX1_widen_b82 post postX ad F72 M72 h73 mc70 ms71 ((r74 * 256) + r75) 0) ∧ (¬ ((r74 * 256) + r75) ≤ 0 → wX1_widen_b82 post postX ad F72 M72 h73 mc70 ms71 ((r74 * 256) + r75) 1)) ∧ (¬ (F72 11) = 0 → (r76 = none → wX1_widen_b171 post postX ad F72 M72 h73 mc70 ms71) ∧ (∀ a78 : Nat, r76 = some a78 → (((r74 * 256) + r75) ≤ 0 → wX1_widen_b135 post postX ad F72 M72 h73 mc70 ms71 ((r74 * 256) + r75) a78 0) ∧ (¬ ((r74 * 256) + r75) ≤ 0 → wX1_widen_b135 post postX ad F72 M72 h73 mc70 ms71 ((r74 * 256) + r75) a78 1)))) ad (F72 11) F72 M72 h73) ad 1 F72 M72 h73) ad 0 F72 M72 h73) postX ad s0 1 F M h ca68 cb69
theorem kX1_widen_b36 {post : (Nat → Int32) → (Nat → Nat → Int32) → x_H → Prop} {postX : String → (Nat → Int32) → (Nat → Nat → Int32) → x_H → Prop} (C : x_C p s m args meth c cX1_widen 3 none RX1 D N0 gp) (hlt : l.stackTraces = false) (hxt : ∀ x ∈ c.exceptionTable.toList, False) {F : (Nat → Int32)} {M : (Nat → Nat → Int32)} {h : x_H} {mc : Nat} {ms : Nat} {s0 : Int32} {k n : Nat} {H : Heap} {locs : List Loc} {ls : Array Slot} (hR : x_R D s N0 (fixC ad F M ++ XF) h H) (hS : va_S (x_A N0) s.heap H locs) (hk : k + mc ≤ mc0) (hn : n + ms ≤ ms0) (hl : lv_has ls 3 [(0, .ref (ad 1000))]) (hw : wX1_widen_b36 post postX ad F M h mc ms s0) : W p l e (rmX1_widen mc0 ms0) s m args below meth c H locs k n (vx_MQ below (x_Qc D N0 (x_Vv (qCv ad XF post))) (x_XC D N0 (qXC ad XF postX)) args s mc0 ms0 (x_A N0)) (F0 m 36 ls [.int s0, .ref (ad 1000)]) := by
  obtain ⟨⟨hx, hb, hml, hown, hts⟩, hr, hlocks, hG, hN⟩ := id C
  unfold wX1_widen_b36 at hw
  refine lv_iconst (v := 1) hx hb dX1_widen_36 (by decide) ?_
  obtain ⟨ca68, cb69, mc70, ms71, hca68, hcb69, hw⟩ := hw
  refine x_callXv (x_runVX (n := 2) (As := [.int s0, .int 1]) C hR hS (kX1_must l D N0 gp ad XF s0 1 F M h ca68 cb69 _ _ hlt hw) (lw_V q507 q509 qs11 q85 q510) rfl rfl (by decide +kernel) ⟨Nat.le_of_ble_eq_true rfl, Nat.le_of_ble_eq_true rfl⟩ (x_recv C (hR.rdX 0 rfl) rfl) rfl hl.1 rfl (Nat.le_of_ble_eq_true rfl) dX1_widen_37 ⟨x_bud hk hca68, x_bud hn hcb69⟩) hS (fun E9 ce9 q9 X9 h9 H9 locs9 hq9 hR9 hS9 hce9 hcv9 hcl9 => by obtain ⟨F9, M9, e9, hq9⟩ := hq9; rw [e9] at hR9; exact x_outX C hxt hR9 hS9 ⟨_, _, rfl, hq9⟩ hce9 hcv9 hcl9 (x_bud hk hca68) (x_bud hn hcb69)) (fun X1 h73 H locs hq hR hS => ?_)
  clear hw
  obtain ⟨F72, M72, e1, hw⟩ := hq
  rw [e1] at hR
  have hk := x_budN hk hca68
  have hn := x_budN hn hcb69
  refine lv_aload_n hx hb dX1_widen_40 rfl (lv_at hl 0 rfl) ?_
  refine lv_iconst (v := 0) hx hb dX1_widen_41 (by decide) ?_
  refine x_calli0 (x_runV (n := 1) (As := [.int 0]) C hR hS (kX1_byteAt l D N0 gp ad XF 0 F72 M72 h73 _ hw) (lw_V q586 q588 qs16 q85 q589) rfl rfl (by decide +kernel) ⟨Nat.le_of_ble_eq_true rfl, Nat.le_of_ble_eq_true rfl⟩ (x_recv C (hR.rdX 0 rfl) rfl) rfl hl.1 rfl (Nat.le_of_ble_eq_true rfl) dX1_widen_42 ⟨x_bud0 hk, x_bud0 hn⟩) hS (fun r74 X1 h1 H locs hq hR hS => ?_)
  clear hw
  obtain ⟨e1, e2, hw⟩ := hq
  rw [e1, e2] at hR
  refine lv_sipush (v := 256) hx hb dX1_widen_45 (by decide) ?_
  refine lv_imul hx hb dX1_widen_48 ?_
  refine lv_aload_n hx hb dX1_widen_49 rfl (lv_at hl 0 rfl) ?_
  refine lv_iconst (v := 1) hx hb dX1_widen_50 (by decide) ?_
  refine x_calli0 (x_runV (n := 1) (As := [.int 1]) C hR hS (kX1_byteAt l D N0 gp ad XF 1 F72 M72 h73 _ hw) (lw_V q586 q588 qs16 q85 q589) rfl rfl (by decide +kernel) ⟨Nat.le_of_ble_eq_true rfl, Nat.le_of_ble_eq_true rfl⟩ (x_recv C (hR.rdX 0 rfl) rfl) rfl hl.1 rfl (Nat.le_of_ble_eq_true rfl) dX1_widen_51 ⟨x_bud0 hk, x_bud0 hn⟩) hS (fun r75 X1 h1 H locs hq hR hS => ?_)
  clear hw
  obtain ⟨e1, e2, hw⟩ := hq
  rw [e1, e2] at hR
  refine lv_iadd hx hb dX1_widen_54 ?_
  refine lv_istore_n (lv' := [(1, .int ((r74 * 256) + r75)), (0, .ref (ad 1000))]) hx hb dX1_widen_55 rfl hl (by decide) rfl (fun ls hl => ?_)
  refine lv_aload_n hx hb dX1_widen_56 rfl (lv_at hl 1 rfl) ?_
  refine lv_aload_n hx hb dX1_widen_57 rfl (lv_at hl 1 rfl) ?_
  refine x_get (ci := 0) (Cn := RX1) (T := TX1) (N := 27) (v := .int (F72 11)) C (hR.rdX 0 rfl) rfl in_X1 11 (by decide) q404 (fun _ h9 => h9) rfl dX1_widen_58 ?_
  refine x_calla0 (x_runV (n := 1) (As := [.int (F72 11)]) C hR hS (kX1_known l D N0 gp ad XF (F72 11) F72 M72 h73 _ hw) (lw_V q594 q596 qs18 q85 q597) rfl rfl (by decide +kernel) ⟨Nat.le_of_ble_eq_true rfl, Nat.le_of_ble_eq_true rfl⟩ (x_recv C (hR.rdX 0 rfl) rfl) rfl hl.1 rfl (Nat.le_of_ble_eq_true rfl) dX1_widen_61 ⟨x_bud0 hk, x_bud0 hn⟩) hS (fun r76 X1 h1 H locs hq hR hS => ?_)
  clear hw
  obtain ⟨e1, e2, hw⟩ := hq
  rw [e1, e2] at hR
  refine x_astore_nO (lv' := [(2, va_rf r76), (1, .int ((r74 * 256) + r75)), (0, .ref (ad 1000))]) hx hb dX1_widen_64 rfl hl (by decide) rfl (fun ls hl => ?_)
  refine lv_aload_n hx hb dX1_widen_65 rfl (lv_at hl 2 rfl) ?_
  refine x_get (ci := 0) (Cn := RX1) (T := TX1) (N := 27) (v := .int (F72 11)) C (hR.rdX 0 rfl) rfl in_X1 11 (by decide) q404 (fun _ h9 => h9) rfl dX1_widen_66 ?_
  refine lv_if_ne (tgt := 121) hx hb dX1_widen_69 (by decide) (fun c77 => ?_) (fun c77 => ?_)
  · replace hw := hw.2 c77
    refine x_aload_nO hx hb dX1_widen_121 rfl (lv_at hl 0 rfl) ?_
    cases r76 with
    | none =>
      replace hw := hw.1 rfl
      refine lv_ifnullN (tgt := 171) hx hb dX1_widen_122 (by decide) ?_
      exact kX1_widen_b171 C hlt hxt hR hS hk hn (lv_sub hl [] rfl) hw
    | some a78 =>
      replace hw := hw.2 a78 rfl
      refine lv_ifnull hx hb dX1_widen_122 ?_
      refine lv_aload_n hx hb dX1_widen_125 rfl (lv_at hl 2 rfl) ?_
      refine lv_iload_n hx hb dX1_widen_126 rfl (lv_at hl 1 rfl) ?_
      refine lv_if_le (tgt := 134) hx hb dX1_widen_127 (by decide) (fun c79 => ?_) (fun c79 => ?_)
      · replace hw := hw.1 c79
        refine lv_iconst (v := 0) hx hb dX1_widen_134 (by decide) ?_
        exact kX1_widen_b135 C hlt hxt hR hS hk hn (lv_sub hl [2, 1, 0] rfl) hw
      · replace hw := hw.2 c79
        refine lv_iconst (v := 1) hx hb dX1_widen_130 (by decide) ?_
        refine lv_goto (tgt := 135) hx hb dX1_widen_131 (by decide) ?_
        exact kX1_widen_b135 C hlt hxt hR hS hk hn (lv_sub hl [2, 1, 0] rfl) hw
  · replace hw := hw.1 c77
    refine lv_aload_n hx hb dX1_widen_72 rfl (lv_at hl 2 rfl) ?_
    refine lv_iload_n hx hb dX1_widen_73 rfl (lv_at hl 1 rfl) ?_
    refine lv_if_le (tgt := 81) hx hb dX1_widen_74 (by decide) (fun c80 => ?_) (fun c80 => ?_)
    · replace hw := hw.1 c80
      refine lv_iconst (v := 0) hx hb dX1_widen_81 (by decide) ?_
      exact kX1_widen_b82 C hlt hxt hR hS hk hn (lv_sub hl [2, 1] rfl) hw
    · replace hw := hw.2 c80
      refine lv_iconst (v := 1) hx hb dX1_widen_77 (by decide) ?_
      refine lv_goto (tgt := 82) hx hb dX1_widen_78 (by decide) ?_
      exact kX1_widen_b82 C hlt hxt hR hS hk hn (lv_sub hl [2, 1] rfl) hw
def wX1_widen_b14 (post : (Nat → Int32) → (Nat → Nat → Int32) → x_H → Prop) (postX : String → (Nat → Int32) → (Nat → Nat → Int32) → x_H → Prop) (ad : Nat → Nat)  (F : (Nat → Int32)) (M : (Nat → Nat → Int32)) (h : x_H) (mc : Nat) (ms : Nat) (s0 : Int32) : Prop :=
  ∃ ca60 cb61 mc62 ms63 : Nat, ca60 + mc62 ≤ mc ∧ cb61 + ms63 ≤ ms ∧ wX1_must (fun F64 M64 h65 => wX1_isIdle (fun r66 => (r66 = 0 → wX1_widen_b36 post postX ad F64 M64 h65 mc62 ms63 1) ∧ (¬ r66 = 0 → wX1_widen_b36 post postX ad F64 M64 h65 mc62 ms63 0)) ad (F64 11) F64 M64 h65) postX ad s0 6 F M h ca60 cb61
theorem kX1_widen_b14 {post : (Nat → Int32) → (Nat → Nat → Int32) → x_H → Prop} {postX : String → (Nat → Int32) → (Nat → Nat → Int32) → x_H → Prop} (C : x_C p s m args meth c cX1_widen 3 none RX1 D N0 gp) (hlt : l.stackTraces = false) (hxt : ∀ x ∈ c.exceptionTable.toList, False) {F : (Nat → Int32)} {M : (Nat → Nat → Int32)} {h : x_H} {mc : Nat} {ms : Nat} {s0 : Int32} {k n : Nat} {H : Heap} {locs : List Loc} {ls : Array Slot} (hR : x_R D s N0 (fixC ad F M ++ XF) h H) (hS : va_S (x_A N0) s.heap H locs) (hk : k + mc ≤ mc0) (hn : n + ms ≤ ms0) (hl : lv_has ls 3 [(0, .ref (ad 1000))]) (hw : wX1_widen_b14 post postX ad F M h mc ms s0) : W p l e (rmX1_widen mc0 ms0) s m args below meth c H locs k n (vx_MQ below (x_Qc D N0 (x_Vv (qCv ad XF post))) (x_XC D N0 (qXC ad XF postX)) args s mc0 ms0 (x_A N0)) (F0 m 14 ls [.int s0, .ref (ad 1000)]) := by
  obtain ⟨⟨hx, hb, hml, hown, hts⟩, hr, hlocks, hG, hN⟩ := id C
  unfold wX1_widen_b14 at hw
  refine lv_bipush (v := 6) hx hb dX1_widen_14 (by decide) ?_
  obtain ⟨ca60, cb61, mc62, ms63, hca60, hcb61, hw⟩ := hw
  refine x_callXv (x_runVX (n := 2) (As := [.int s0, .int 6]) C hR hS (kX1_must l D N0 gp ad XF s0 6 F M h ca60 cb61 _ _ hlt hw) (lw_V q507 q509 qs11 q85 q510) rfl rfl (by decide +kernel) ⟨Nat.le_of_ble_eq_true rfl, Nat.le_of_ble_eq_true rfl⟩ (x_recv C (hR.rdX 0 rfl) rfl) rfl hl.1 rfl (Nat.le_of_ble_eq_true rfl) dX1_widen_16 ⟨x_bud hk hca60, x_bud hn hcb61⟩) hS (fun E9 ce9 q9 X9 h9 H9 locs9 hq9 hR9 hS9 hce9 hcv9 hcl9 => by obtain ⟨F9, M9, e9, hq9⟩ := hq9; rw [e9] at hR9; exact x_outX C hxt hR9 hS9 ⟨_, _, rfl, hq9⟩ hce9 hcv9 hcl9 (x_bud hk hca60) (x_bud hn hcb61)) (fun X1 h65 H locs hq hR hS => ?_)
  clear hw
  obtain ⟨F64, M64, e1, hw⟩ := hq
  rw [e1] at hR
  have hk := x_budN hk hca60
  have hn := x_budN hn hcb61
  refine lv_aload_n hx hb dX1_widen_19 rfl (lv_at hl 0 rfl) ?_
  refine lv_aload_n hx hb dX1_widen_20 rfl (lv_at hl 0 rfl) ?_
  refine lv_aload_n hx hb dX1_widen_21 rfl (lv_at hl 0 rfl) ?_
  refine x_get (ci := 0) (Cn := RX1) (T := TX1) (N := 27) (v := .int (F64 11)) C (hR.rdX 0 rfl) rfl in_X1 11 (by decide) q404 (fun _ h9 => h9) rfl dX1_widen_22 ?_
  refine x_calli0 (x_runV (n := 1) (As := [.int (F64 11)]) C hR hS (kX1_isIdle l D N0 gp ad XF (F64 11) F64 M64 h65 _ hw) (lw_V q578 q580 qs14 q85 q581) rfl rfl (by decide +kernel) ⟨Nat.le_of_ble_eq_true rfl, Nat.le_of_ble_eq_true rfl⟩ (x_recv C (hR.rdX 0 rfl) rfl) rfl hl.1 rfl (Nat.le_of_ble_eq_true rfl) dX1_widen_25 ⟨x_bud0 hk, x_bud0 hn⟩) hS (fun r66 X1 h1 H locs hq hR hS => ?_)
  clear hw
  obtain ⟨e1, e2, hw⟩ := hq
  rw [e1, e2] at hR
  refine lv_if_ne (tgt := 35) hx hb dX1_widen_28 (by decide) (fun c67 => ?_) (fun c67 => ?_)
  · replace hw := hw.2 c67
    refine lv_iconst (v := 0) hx hb dX1_widen_35 (by decide) ?_
    exact kX1_widen_b36 C hlt hxt hR hS hk hn (lv_sub hl [0] rfl) hw
  · replace hw := hw.1 c67
    refine lv_iconst (v := 1) hx hb dX1_widen_31 (by decide) ?_
    refine lv_goto (tgt := 36) hx hb dX1_widen_32 (by decide) ?_
    exact kX1_widen_b36 C hlt hxt hR hS hk hn (lv_sub hl [0] rfl) hw
end
def wX1_widen (post : (Nat → Int32) → (Nat → Nat → Int32) → x_H → Prop) (postX : String → (Nat → Int32) → (Nat → Nat → Int32) → x_H → Prop) (ad : Nat → Nat)  (F : (Nat → Int32)) (M : (Nat → Nat → Int32)) (h : x_H) (mc : Nat) (ms : Nat) : Prop :=
  ((F 12) = 2 → wX1_widen_b14 post postX ad F M h mc ms 1) ∧ (¬ (F 12) = 2 → wX1_widen_b14 post postX ad F M h mc ms 0)
theorem kX1_widen (l : Launch) (D : va_G) (N0 : Nat) (gp : Nat → Nat) (ad : Nat → Nat) (XF : x_X)  (F : (Nat → Int32)) (M : (Nat → Nat → Int32)) (h : x_H) (mc : Nat) (ms : Nat) (post : (Nat → Int32) → (Nat → Nat → Int32) → x_H → Prop) (postX : String → (Nat → Int32) → (Nat → Nat → Int32) → x_H → Prop) (hlt : l.stackTraces = false) (hw : wX1_widen post postX ad F M h mc ms) : vx_Met l yX1_widen (ws_ yX1_widen cX1_widen 3 none) (rmX1_widen mc ms) (x_Pc D N0 gp (fixC ad F M ++ XF) h [.ref (ad 1000)]) (x_Qc D N0 (x_Vv (qCv ad XF post))) (x_XC D N0 (qXC ad XF postX)) mc ms (x_A N0) := by
  refine x_startX (lv := [(0, .ref (ad 1000))]) (by decide) rfl (Nat.le_of_ble_eq_true rfl) rfl ?_
  intro p e s m below meth c C hxt hR ls hl
  have hS : va_S (x_A N0) s.heap s.heap [] := va_S.rf
  obtain ⟨⟨hx, hb, hml, hown, hts⟩, hr, hlocks, hG, hN⟩ := id C
  unfold wX1_widen at hw
  have hk : 0 + mc ≤ mc := Nat.le_of_eq (Nat.zero_add _)
  have hn : 0 + ms ≤ ms := Nat.le_of_eq (Nat.zero_add _)
  refine lv_aload_n hx hb dX1_widen_0 rfl (lv_at hl 0 rfl) ?_
  refine lv_aload_n hx hb dX1_widen_1 rfl (lv_at hl 0 rfl) ?_
  refine x_get (ci := 0) (Cn := RX1) (T := TX1) (N := 27) (v := .int (F 12)) C (hR.rdX 0 rfl) rfl in_X1 12 (by decide) q405 (fun _ h9 => h9) rfl dX1_widen_2 ?_
  refine lv_iconst (v := 2) hx hb dX1_widen_5 (by decide) ?_
  refine lv_icmp_ne (tgt := 13) hx hb dX1_widen_6 (by decide) (fun c59 => ?_) (fun c59 => ?_)
  · replace hw := hw.2 c59
    refine lv_iconst (v := 0) hx hb dX1_widen_13 (by decide) ?_
    exact kX1_widen_b14 C hlt hxt hR hS hk hn (lv_sub hl [0] rfl) hw
  · replace hw := hw.1 c59
    refine lv_iconst (v := 1) hx hb dX1_widen_9 (by decide) ?_
    refine lv_goto (tgt := 14) hx hb dX1_widen_10 (by decide) ?_
    exact kX1_widen_b14 C hlt hxt hR hS hk hn (lv_sub hl [0] rfl) hw
/-- PageServer.look()V -/
abbrev rmX1_look (mc0 ms0 : Nat) : Room := { frames := 13, cells := mc0, slots := ms0, locals := 308 }
section
variable {p : Program} {l : Launch} {e : Env} {s : State} {m : MethodId} {args : Array Value} {below : List Frame} {meth : Method} {c : Code} {D : va_G} {N0 : Nat} {gp : Nat → Nat} {ad : Nat → Nat} {XF : x_X} {mc0 ms0 : Nat}
def wX1_look_b303 (post : (Nat → Int32) → (Nat → Nat → Int32) → x_H → Prop) (postX : String → (Nat → Int32) → (Nat → Nat → Int32) → x_H → Prop) (gp : Nat → Nat) (ad : Nat → Nat)  (F : (Nat → Int32)) (M : (Nat → Nat → Int32)) (h : x_H) (mc : Nat) (ms : Nat) : Prop :=
  post F M h
theorem kX1_look_b303 {post : (Nat → Int32) → (Nat → Nat → Int32) → x_H → Prop} {postX : String → (Nat → Int32) → (Nat → Nat → Int32) → x_H → Prop} (C : x_C p s m args meth c cX1_look 1 none RX1 D N0 gp) (hlt : l.stackTraces = false) (hxt : ∀ x ∈ c.exceptionTable.toList, False) {F : (Nat → Int32)} {M : (Nat → Nat → Int32)} {h : x_H} {mc : Nat} {ms : Nat} {k n : Nat} {H : Heap} {locs : List Loc} {ls : Array Slot} (hR : x_R D s N0 (fixC ad F M ++ XF) h H) (hS : va_S (x_A N0) s.heap H locs) (hk : k + mc ≤ mc0) (hn : n + ms ≤ ms0) (hl : lv_has ls 1 []) (hw : wX1_look_b303 post postX gp ad F M h mc ms) : W p l e (rmX1_look mc0 ms0) s m args below meth c H locs k n (vx_MQ below (x_Qc D N0 (x_Vv (qCv ad XF post))) (x_XC D N0 (qXC ad XF postX)) args s mc0 ms0 (x_A N0)) (F0 m 303 ls []) := by
  obtain ⟨⟨hx, hb, hml, hown, hts⟩, hr, hlocks, hG, hN⟩ := id C
  unfold wX1_look_b303 at hw
  exact vx_ret (x_endv C hR hS ⟨rfl, ⟨_, _, rfl, hw⟩⟩ (x_le hk) (x_le hn) dX1_look_303)
def wX1_look_b228 (post : (Nat → Int32) → (Nat → Nat → Int32) → x_H → Prop) (postX : String → (Nat → Int32) → (Nat → Nat → Int32) → x_H → Prop) (gp : Nat → Nat) (ad : Nat → Nat)  (F : (Nat → Int32)) (M : (Nat → Nat → Int32)) (h : x_H) (mc : Nat) (ms : Nat) (s0 : Int32) : Prop :=
  ∃ ca160 cb161 mc162 ms163 : Nat, ca160 + mc162 ≤ mc ∧ cb161 + ms163 ≤ ms ∧ wX1_must (fun F164 M164 h165 => ∃ ca166 cb167 mc168 ms169 : Nat, ca166 + mc168 ≤ mc162 ∧ cb167 + ms169 ≤ ms163 ∧ wX1_over (fun F170 M170 h171 => wX1_look_b303 post postX gp ad F170 M170 h171 mc168 ms169) gp ad (F164 11) F164 M164 h165 ca166 cb167) postX ad s0 1 F M h ca160 cb161
theorem kX1_look_b228 {post : (Nat → Int32) → (Nat → Nat → Int32) → x_H → Prop} {postX : String → (Nat → Int32) → (Nat → Nat → Int32) → x_H → Prop} (C : x_C p s m args meth c cX1_look 1 none RX1 D N0 gp) (hlt : l.stackTraces = false) (hxt : ∀ x ∈ c.exceptionTable.toList, False) {F : (Nat → Int32)} {M : (Nat → Nat → Int32)} {h : x_H} {mc : Nat} {ms : Nat} {s0 : Int32} {k n : Nat} {H : Heap} {locs : List Loc} {ls : Array Slot} (hR : x_R D s N0 (fixC ad F M ++ XF) h H) (hS : va_S (x_A N0) s.heap H locs) (hk : k + mc ≤ mc0) (hn : n + ms ≤ ms0) (hl : lv_has ls 1 [(0, .ref (ad 1000))]) (hw : wX1_look_b228 post postX gp ad F M h mc ms s0) : W p l e (rmX1_look mc0 ms0) s m args below meth c H locs k n (vx_MQ below (x_Qc D N0 (x_Vv (qCv ad XF post))) (x_XC D N0 (qXC ad XF postX)) args s mc0 ms0 (x_A N0)) (F0 m 228 ls [.int s0, .ref (ad 1000)]) := by
  obtain ⟨⟨hx, hb, hml, hown, hts⟩, hr, hlocks, hG, hN⟩ := id C
  unfold wX1_look_b228 at hw
  refine lv_iconst (v := 1) hx hb dX1_look_228 (by decide) ?_
  obtain ⟨ca160, cb161, mc162, ms163, hca160, hcb161, hw⟩ := hw
  refine x_callXv (x_runVX (n := 2) (As := [.int s0, .int 1]) C hR hS (kX1_must l D N0 gp ad XF s0 1 F M h ca160 cb161 _ _ hlt hw) (lw_V q507 q509 qs11 q85 q510) rfl rfl (by decide +kernel) ⟨Nat.le_of_ble_eq_true rfl, Nat.le_of_ble_eq_true rfl⟩ (x_recv C (hR.rdX 0 rfl) rfl) rfl hl.1 rfl (Nat.le_of_ble_eq_true rfl) dX1_look_229 ⟨x_bud hk hca160, x_bud hn hcb161⟩) hS (fun E9 ce9 q9 X9 h9 H9 locs9 hq9 hR9 hS9 hce9 hcv9 hcl9 => by obtain ⟨F9, M9, e9, hq9⟩ := hq9; rw [e9] at hR9; exact x_outX C hxt hR9 hS9 ⟨_, _, rfl, hq9⟩ hce9 hcv9 hcl9 (x_bud hk hca160) (x_bud hn hcb161)) (fun X1 h165 H locs hq hR hS => ?_)
  clear hw
  obtain ⟨F164, M164, e1, hw⟩ := hq
  rw [e1] at hR
  have hk := x_budN hk hca160
  have hn := x_budN hn hcb161
  refine lv_aload_n hx hb dX1_look_232 rfl (lv_at hl 0 rfl) ?_
  refine lv_aload_n hx hb dX1_look_233 rfl (lv_at hl 0 rfl) ?_
  refine x_get (ci := 0) (Cn := RX1) (T := TX1) (N := 27) (v := .int (F164 11)) C (hR.rdX 0 rfl) rfl in_X1 11 (by decide) q404 (fun _ h9 => h9) rfl dX1_look_234 ?_
  obtain ⟨ca166, cb167, mc168, ms169, hca166, hcb167, hw⟩ := hw
  refine x_callv (x_runV (n := 1) (As := [.int (F164 11)]) C hR hS (kX1_over l D N0 gp ad XF (F164 11) F164 M164 h165 ca166 cb167 _ hw) (lw_V q660 q662 qs23 q85 q663) rfl rfl (by decide +kernel) ⟨Nat.le_of_ble_eq_true rfl, Nat.le_of_ble_eq_true rfl⟩ (x_recv C (hR.rdX 0 rfl) rfl) rfl hl.1 rfl (Nat.le_of_ble_eq_true rfl) dX1_look_237 ⟨x_bud hk hca166, x_bud hn hcb167⟩) hS (fun X1 h171 H locs hq hR hS => ?_)
  clear hw
  obtain ⟨F170, M170, e1, hw⟩ := hq
  rw [e1] at hR
  have hk := x_budN hk hca166
  have hn := x_budN hn hcb167
  refine lv_goto (tgt := 303) hx hb dX1_look_240 (by decide) ?_
  exact kX1_look_b303 C hlt hxt hR hS hk hn (lv_sub hl [] rfl) hw
def wX1_look_b227 (post : (Nat → Int32) → (Nat → Nat → Int32) → x_H → Prop) (postX : String → (Nat → Int32) → (Nat → Nat → Int32) → x_H → Prop) (gp : Nat → Nat) (ad : Nat → Nat)  (F : (Nat → Int32)) (M : (Nat → Nat → Int32)) (h : x_H) (mc : Nat) (ms : Nat) : Prop :=
  wX1_look_b228 post postX gp ad F M h mc ms 0
theorem kX1_look_b227 {post : (Nat → Int32) → (Nat → Nat → Int32) → x_H → Prop} {postX : String → (Nat → Int32) → (Nat → Nat → Int32) → x_H → Prop} (C : x_C p s m args meth c cX1_look 1 none RX1 D N0 gp) (hlt : l.stackTraces = false) (hxt : ∀ x ∈ c.exceptionTable.toList, False) {F : (Nat → Int32)} {M : (Nat → Nat → Int32)} {h : x_H} {mc : Nat} {ms : Nat} {k n : Nat} {H : Heap} {locs : List Loc} {ls : Array Slot} (hR : x_R D s N0 (fixC ad F M ++ XF) h H) (hS : va_S (x_A N0) s.heap H locs) (hk : k + mc ≤ mc0) (hn : n + ms ≤ ms0) (hl : lv_has ls 1 [(0, .ref (ad 1000))]) (hw : wX1_look_b227 post postX gp ad F M h mc ms) : W p l e (rmX1_look mc0 ms0) s m args below meth c H locs k n (vx_MQ below (x_Qc D N0 (x_Vv (qCv ad XF post))) (x_XC D N0 (qXC ad XF postX)) args s mc0 ms0 (x_A N0)) (F0 m 227 ls [.ref (ad 1000)]) := by
  obtain ⟨⟨hx, hb, hml, hown, hts⟩, hr, hlocks, hG, hN⟩ := id C
  unfold wX1_look_b227 at hw
  refine lv_iconst (v := 0) hx hb dX1_look_227 (by decide) ?_
  exact kX1_look_b228 C hlt hxt hR hS hk hn (lv_sub hl [0] rfl) hw
def wX1_look_b199 (post : (Nat → Int32) → (Nat → Nat → Int32) → x_H → Prop) (postX : String → (Nat → Int32) → (Nat → Nat → Int32) → x_H → Prop) (gp : Nat → Nat) (ad : Nat → Nat)  (F : (Nat → Int32)) (M : (Nat → Nat → Int32)) (h : x_H) (mc : Nat) (ms : Nat) (s0 : Int32) : Prop :=
  ∃ ca151 cb152 mc153 ms154 : Nat, ca151 + mc153 ≤ mc ∧ cb152 + ms154 ≤ ms ∧ wX1_must (fun F155 M155 h156 => ((F155 11) = 0 → wX1_look_b227 post postX gp ad F155 M155 h156 mc153 ms154) ∧ (¬ (F155 11) = 0 → wX1_isIdle (fun r158 => (r158 = 0 → wX1_look_b228 post postX gp ad F155 M155 h156 mc153 ms154 1) ∧ (¬ r158 = 0 → wX1_look_b227 post postX gp ad F155 M155 h156 mc153 ms154)) ad (F155 11) F155 M155 h156)) postX ad s0 6 F M h ca151 cb152
theorem kX1_look_b199 {post : (Nat → Int32) → (Nat → Nat → Int32) → x_H → Prop} {postX : String → (Nat → Int32) → (Nat → Nat → Int32) → x_H → Prop} (C : x_C p s m args meth c cX1_look 1 none RX1 D N0 gp) (hlt : l.stackTraces = false) (hxt : ∀ x ∈ c.exceptionTable.toList, False) {F : (Nat → Int32)} {M : (Nat → Nat → Int32)} {h : x_H} {mc : Nat} {ms : Nat} {s0 : Int32} {k n : Nat} {H : Heap} {locs : List Loc} {ls : Array Slot} (hR : x_R D s N0 (fixC ad F M ++ XF) h H) (hS : va_S (x_A N0) s.heap H locs) (hk : k + mc ≤ mc0) (hn : n + ms ≤ ms0) (hl : lv_has ls 1 [(0, .ref (ad 1000))]) (hw : wX1_look_b199 post postX gp ad F M h mc ms s0) : W p l e (rmX1_look mc0 ms0) s m args below meth c H locs k n (vx_MQ below (x_Qc D N0 (x_Vv (qCv ad XF post))) (x_XC D N0 (qXC ad XF postX)) args s mc0 ms0 (x_A N0)) (F0 m 199 ls [.int s0, .ref (ad 1000)]) := by
  obtain ⟨⟨hx, hb, hml, hown, hts⟩, hr, hlocks, hG, hN⟩ := id C
  unfold wX1_look_b199 at hw
  refine lv_bipush (v := 6) hx hb dX1_look_199 (by decide) ?_
  obtain ⟨ca151, cb152, mc153, ms154, hca151, hcb152, hw⟩ := hw
  refine x_callXv (x_runVX (n := 2) (As := [.int s0, .int 6]) C hR hS (kX1_must l D N0 gp ad XF s0 6 F M h ca151 cb152 _ _ hlt hw) (lw_V q507 q509 qs11 q85 q510) rfl rfl (by decide +kernel) ⟨Nat.le_of_ble_eq_true rfl, Nat.le_of_ble_eq_true rfl⟩ (x_recv C (hR.rdX 0 rfl) rfl) rfl hl.1 rfl (Nat.le_of_ble_eq_true rfl) dX1_look_201 ⟨x_bud hk hca151, x_bud hn hcb152⟩) hS (fun E9 ce9 q9 X9 h9 H9 locs9 hq9 hR9 hS9 hce9 hcv9 hcl9 => by obtain ⟨F9, M9, e9, hq9⟩ := hq9; rw [e9] at hR9; exact x_outX C hxt hR9 hS9 ⟨_, _, rfl, hq9⟩ hce9 hcv9 hcl9 (x_bud hk hca151) (x_bud hn hcb152)) (fun X1 h156 H locs hq hR hS => ?_)
  clear hw
  obtain ⟨F155, M155, e1, hw⟩ := hq
  rw [e1] at hR
  have hk := x_budN hk hca151
  have hn := x_budN hn hcb152
  refine lv_aload_n hx hb dX1_look_204 rfl (lv_at hl 0 rfl) ?_
  refine lv_aload_n hx hb dX1_look_205 rfl (lv_at hl 0 rfl) ?_
  refine x_get (ci := 0) (Cn := RX1) (T := TX1) (N := 27) (v := .int (F155 11)) C (hR.rdX 0 rfl) rfl in_X1 11 (by decide) q404 (fun _ h9 => h9) rfl dX1_look_206 ?_
  refine lv_if_eq (tgt := 227) hx hb dX1_look_209 (by decide) (fun c157 => ?_) (fun c157 => ?_)
  · replace hw := hw.1 c157
    exact kX1_look_b227 C hlt hxt hR hS hk hn (lv_sub hl [0] rfl) hw
  · replace hw := hw.2 c157
    refine lv_aload_n hx hb dX1_look_212 rfl (lv_at hl 0 rfl) ?_
    refine lv_aload_n hx hb dX1_look_213 rfl (lv_at hl 0 rfl) ?_
    refine x_get (ci := 0) (Cn := RX1) (T := TX1) (N := 27) (v := .int (F155 11)) C (hR.rdX 0 rfl) rfl in_X1 11 (by decide) q404 (fun _ h9 => h9) rfl dX1_look_214 ?_
    refine x_calli0 (x_runV (n := 1) (As := [.int (F155 11)]) C hR hS (kX1_isIdle l D N0 gp ad XF (F155 11) F155 M155 h156 _ hw) (lw_V q578 q580 qs14 q85 q581) rfl rfl (by decide +kernel) ⟨Nat.le_of_ble_eq_true rfl, Nat.le_of_ble_eq_true rfl⟩ (x_recv C (hR.rdX 0 rfl) rfl) rfl hl.1 rfl (Nat.le_of_ble_eq_true rfl) dX1_look_217 ⟨x_bud0 hk, x_bud0 hn⟩) hS (fun r158 X1 h1 H locs hq hR hS => ?_)
    clear hw
    obtain ⟨e1, e2, hw⟩ := hq
    rw [e1, e2] at hR
    refine lv_if_ne (tgt := 227) hx hb dX1_look_220 (by decide) (fun c159 => ?_) (fun c159 => ?_)
    · replace hw := hw.2 c159
      exact kX1_look_b227 C hlt hxt hR hS hk hn (lv_sub hl [0] rfl) hw
    · replace hw := hw.1 c159
      refine lv_iconst (v := 1) hx hb dX1_look_223 (by decide) ?_
      refine lv_goto (tgt := 228) hx hb dX1_look_224 (by decide) ?_
      exact kX1_look_b228 C hlt hxt hR hS hk hn (lv_sub hl [0] rfl) hw
def wX1_look_b288 (post : (Nat → Int32) → (Nat → Nat → Int32) → x_H → Prop) (postX : String → (Nat → Int32) → (Nat → Nat → Int32) → x_H → Prop) (gp : Nat → Nat) (ad : Nat → Nat)  (F : (Nat → Int32)) (M : (Nat → Nat → Int32)) (h : x_H) (mc : Nat) (ms : Nat) (s0 : Int32) : Prop :=
  ∃ ca179 cb180 mc181 ms182 : Nat, ca179 + mc181 ≤ mc ∧ cb180 + ms182 ≤ ms ∧ wX1_must (fun F183 M183 h184 => wX1_look_b303 post postX gp ad F183 M183 h184 mc181 ms182) postX ad s0 6 F M h ca179 cb180
theorem kX1_look_b288 {post : (Nat → Int32) → (Nat → Nat → Int32) → x_H → Prop} {postX : String → (Nat → Int32) → (Nat → Nat → Int32) → x_H → Prop} (C : x_C p s m args meth c cX1_look 1 none RX1 D N0 gp) (hlt : l.stackTraces = false) (hxt : ∀ x ∈ c.exceptionTable.toList, False) {F : (Nat → Int32)} {M : (Nat → Nat → Int32)} {h : x_H} {mc : Nat} {ms : Nat} {s0 : Int32} {k n : Nat} {H : Heap} {locs : List Loc} {ls : Array Slot} (hR : x_R D s N0 (fixC ad F M ++ XF) h H) (hS : va_S (x_A N0) s.heap H locs) (hk : k + mc ≤ mc0) (hn : n + ms ≤ ms0) (hl : lv_has ls 1 []) (hw : wX1_look_b288 post postX gp ad F M h mc ms s0) : W p l e (rmX1_look mc0 ms0) s m args below meth c H locs k n (vx_MQ below (x_Qc D N0 (x_Vv (qCv ad XF post))) (x_XC D N0 (qXC ad XF postX)) args s mc0 ms0 (x_A N0)) (F0 m 288 ls [.int s0, .ref (ad 1000)]) := by
  obtain ⟨⟨hx, hb, hml, hown, hts⟩, hr, hlocks, hG, hN⟩ := id C
  unfold wX1_look_b288 at hw
  refine lv_bipush (v := 6) hx hb dX1_look_288 (by decide) ?_
  obtain ⟨ca179, cb180, mc181, ms182, hca179, hcb180, hw⟩ := hw
  refine x_callXv (x_runVX (n := 2) (As := [.int s0, .int 6]) C hR hS (kX1_must l D N0 gp ad XF s0 6 F M h ca179 cb180 _ _ hlt hw) (lw_V q507 q509 qs11 q85 q510) rfl rfl (by decide +kernel) ⟨Nat.le_of_ble_eq_true rfl, Nat.le_of_ble_eq_true rfl⟩ (x_recv C (hR.rdX 0 rfl) rfl) rfl hl.1 rfl (Nat.le_of_ble_eq_true rfl) dX1_look_290 ⟨x_bud hk hca179, x_bud hn hcb180⟩) hS (fun E9 ce9 q9 X9 h9 H9 locs9 hq9 hR9 hS9 hce9 hcv9 hcl9 => by obtain ⟨F9, M9, e9, hq9⟩ := hq9; rw [e9] at hR9; exact x_outX C hxt hR9 hS9 ⟨_, _, rfl, hq9⟩ hce9 hcv9 hcl9 (x_bud hk hca179) (x_bud hn hcb180)) (fun X1 h184 H locs hq hR hS => ?_)
  clear hw
  obtain ⟨F183, M183, e1, hw⟩ := hq
  rw [e1] at hR
  have hk := x_budN hk hca179
  have hn := x_budN hn hcb180
  refine lv_goto (tgt := 303) hx hb dX1_look_293 (by decide) ?_
  exact kX1_look_b303 C hlt hxt hR hS hk hn (lv_sub hl [] rfl) hw
def wX1_look_b270 (post : (Nat → Int32) → (Nat → Nat → Int32) → x_H → Prop) (postX : String → (Nat → Int32) → (Nat → Nat → Int32) → x_H → Prop) (gp : Nat → Nat) (ad : Nat → Nat)  (F : (Nat → Int32)) (M : (Nat → Nat → Int32)) (h : x_H) (mc : Nat) (ms : Nat) (s0 : Int32) : Prop :=
  ∃ ca172 cb173 mc174 ms175 : Nat, ca172 + mc174 ≤ mc ∧ cb173 + ms175 ≤ ms ∧ wX1_must (fun F176 M176 h177 => ((F176 12) = 2 → wX1_look_b288 post postX gp ad F176 M176 h177 mc174 ms175 1) ∧ (¬ (F176 12) = 2 → wX1_look_b288 post postX gp ad F176 M176 h177 mc174 ms175 0)) postX ad s0 1 F M h ca172 cb173
theorem kX1_look_b270 {post : (Nat → Int32) → (Nat → Nat → Int32) → x_H → Prop} {postX : String → (Nat → Int32) → (Nat → Nat → Int32) → x_H → Prop} (C : x_C p s m args meth c cX1_look 1 none RX1 D N0 gp) (hlt : l.stackTraces = false) (hxt : ∀ x ∈ c.exceptionTable.toList, False) {F : (Nat → Int32)} {M : (Nat → Nat → Int32)} {h : x_H} {mc : Nat} {ms : Nat} {s0 : Int32} {k n : Nat} {H : Heap} {locs : List Loc} {ls : Array Slot} (hR : x_R D s N0 (fixC ad F M ++ XF) h H) (hS : va_S (x_A N0) s.heap H locs) (hk : k + mc ≤ mc0) (hn : n + ms ≤ ms0) (hl : lv_has ls 1 [(0, .ref (ad 1000))]) (hw : wX1_look_b270 post postX gp ad F M h mc ms s0) : W p l e (rmX1_look mc0 ms0) s m args below meth c H locs k n (vx_MQ below (x_Qc D N0 (x_Vv (qCv ad XF post))) (x_XC D N0 (qXC ad XF postX)) args s mc0 ms0 (x_A N0)) (F0 m 270 ls [.int s0, .ref (ad 1000)]) := by
  obtain ⟨⟨hx, hb, hml, hown, hts⟩, hr, hlocks, hG, hN⟩ := id C
  unfold wX1_look_b270 at hw
  refine lv_iconst (v := 1) hx hb dX1_look_270 (by decide) ?_
  obtain ⟨ca172, cb173, mc174, ms175, hca172, hcb173, hw⟩ := hw
  refine x_callXv (x_runVX (n := 2) (As := [.int s0, .int 1]) C hR hS (kX1_must l D N0 gp ad XF s0 1 F M h ca172 cb173 _ _ hlt hw) (lw_V q507 q509 qs11 q85 q510) rfl rfl (by decide +kernel) ⟨Nat.le_of_ble_eq_true rfl, Nat.le_of_ble_eq_true rfl⟩ (x_recv C (hR.rdX 0 rfl) rfl) rfl hl.1 rfl (Nat.le_of_ble_eq_true rfl) dX1_look_271 ⟨x_bud hk hca172, x_bud hn hcb173⟩) hS (fun E9 ce9 q9 X9 h9 H9 locs9 hq9 hR9 hS9 hce9 hcv9 hcl9 => by obtain ⟨F9, M9, e9, hq9⟩ := hq9; rw [e9] at hR9; exact x_outX C hxt hR9 hS9 ⟨_, _, rfl, hq9⟩ hce9 hcv9 hcl9 (x_bud hk hca172) (x_bud hn hcb173)) (fun X1 h177 H locs hq hR hS => ?_)
  clear hw
  obtain ⟨F176, M176, e1, hw⟩ := hq
  rw [e1] at hR
  have hk := x_budN hk hca172
  have hn := x_budN hn hcb173
  refine lv_aload_n hx hb dX1_look_274 rfl (lv_at hl 0 rfl) ?_
  refine lv_aload_n hx hb dX1_look_275 rfl (lv_at hl 0 rfl) ?_
  refine x_get (ci := 0) (Cn := RX1) (T := TX1) (N := 27) (v := .int (F176 12)) C (hR.rdX 0 rfl) rfl in_X1 12 (by decide) q405 (fun _ h9 => h9) rfl dX1_look_276 ?_
  refine lv_iconst (v := 2) hx hb dX1_look_279 (by decide) ?_
  refine lv_icmp_ne (tgt := 287) hx hb dX1_look_280 (by decide) (fun c178 => ?_) (fun c178 => ?_)
  · replace hw := hw.2 c178
    refine lv_iconst (v := 0) hx hb dX1_look_287 (by decide) ?_
    exact kX1_look_b288 C hlt hxt hR hS hk hn (lv_sub hl [] rfl) hw
  · replace hw := hw.1 c178
    refine lv_iconst (v := 1) hx hb dX1_look_283 (by decide) ?_
    refine lv_goto (tgt := 288) hx hb dX1_look_284 (by decide) ?_
    exact kX1_look_b288 C hlt hxt hR hS hk hn (lv_sub hl [] rfl) hw
def wX1_look_b89 (post : (Nat → Int32) → (Nat → Nat → Int32) → x_H → Prop) (postX : String → (Nat → Int32) → (Nat → Nat → Int32) → x_H → Prop) (gp : Nat → Nat) (ad : Nat → Nat)  (F : (Nat → Int32)) (M : (Nat → Nat → Int32)) (h : x_H) (mc : Nat) (ms : Nat) (s0 : Int32) : Prop :=
  ∃ ca107 cb108 mc109 ms110 : Nat, ca107 + mc109 ≤ mc ∧ cb108 + ms110 ≤ ms ∧ wX1_must (fun F111 M111 h112 => ((F111 9) = 0 → ∃ ca113 cb114 mc115 ms116 : Nat, ca113 + mc115 ≤ mc109 ∧ cb114 + ms116 ≤ ms110 ∧ wX1_data (fun F117 M117 h118 => wX1_look_b303 post postX gp ad F117 M117 h118 mc115 ms116) postX gp ad (upd (upd F111 13 0) 14 (F111 12)) M111 h112 ca113 cb114) ∧ ((F111 9) = 1 → ∃ ca119 cb120 mc121 ms122 : Nat, ca119 + mc121 ≤ mc109 ∧ cb120 + ms122 ≤ ms110 ∧ wX1_headers (fun F123 M123 h124 => wX1_look_b303 post postX gp ad F123 M123 h124 mc121 ms122) postX gp ad (upd (upd F111 13 0) 14 (F111 12)) M111 h112 ca119 cb120) ∧ ((F111 9) = 3 → ((F111 12) = 1 → wX1_look_b199 post postX gp ad (upd (upd F111 13 0) 14 (F111 12)) M111 h112 mc109 ms110 1) ∧ (¬ (F111 12) = 1 → wX1_look_b199 post postX gp ad (upd (upd F111 13 0) 14 (F111 12)) M111 h112 mc109 ms110 0)) ∧ ((F111 9) = 4 → ∃ ca126 cb127 mc128 ms129 : Nat, ca126 + mc128 ≤ mc109 ∧ cb127 + ms129 ≤ ms110 ∧ wX1_settings (fun F130 M130 h131 => wX1_look_b303 post postX gp ad F130 M130 h131 mc128 ms129) postX ad (upd (upd F111 13 0) 14 (F111 12)) M111 h112 ca126 cb127) ∧ ((F111 9) = 6 → ∃ ca132 cb133 mc134 ms135 : Nat, ca132 + mc134 ≤ mc109 ∧ cb133 + ms135 ≤ ms110 ∧ wX1_ping (fun F136 M136 h137 => wX1_look_b303 post postX gp ad F136 M136 h137 mc134 ms135) postX ad (upd (upd F111 13 0) 14 (F111 12)) M111 h112 ca132 cb133) ∧ ((F111 9) = 7 → ((F111 11) = 0 → wX1_look_b270 post postX gp ad (upd (upd F111 13 0) 14 (F111 12)) M111 h112 mc109 ms110 1) ∧ (¬ (F111 11) = 0 → wX1_look_b270 post postX gp ad (upd (upd F111 13 0) 14 (F111 12)) M111 h112 mc109 ms110 0)) ∧ ((F111 9) = 8 → ∃ ca139 cb140 mc141 ms142 : Nat, ca139 + mc141 ≤ mc109 ∧ cb140 + ms142 ≤ ms110 ∧ wX1_widen (fun F143 M143 h144 => wX1_look_b303 post postX gp ad F143 M143 h144 mc141 ms142) postX ad (upd (upd F111 13 0) 14 (F111 12)) M111 h112 ca139 cb140) ∧ ((F111 9) = 9 → ∃ ca145 cb146 mc147 ms148 : Nat, ca145 + mc147 ≤ mc109 ∧ cb146 + ms148 ≤ ms110 ∧ wX1_more (fun F149 M149 h150 => wX1_look_b303 post postX gp ad F149 M149 h150 mc147 ms148) postX gp ad (upd (upd F111 13 0) 14 (F111 12)) M111 h112 ca145 cb146) ∧ (¬ (F111 9) = 0 → ¬ (F111 9) = 1 → ¬ (F111 9) = 3 → ¬ (F111 9) = 4 → ¬ (F111 9) = 6 → ¬ (F111 9) = 7 → ¬ (F111 9) = 8 → ¬ (F111 9) = 9 → wX1_look_b303 post postX gp ad (upd (upd F111 13 0) 14 (F111 12)) M111 h112 mc109 ms110)) postX ad s0 1 F M h ca107 cb108
theorem kX1_look_b89 {post : (Nat → Int32) → (Nat → Nat → Int32) → x_H → Prop} {postX : String → (Nat → Int32) → (Nat → Nat → Int32) → x_H → Prop} (C : x_C p s m args meth c cX1_look 1 none RX1 D N0 gp) (hlt : l.stackTraces = false) (hxt : ∀ x ∈ c.exceptionTable.toList, False) {F : (Nat → Int32)} {M : (Nat → Nat → Int32)} {h : x_H} {mc : Nat} {ms : Nat} {s0 : Int32} {k n : Nat} {H : Heap} {locs : List Loc} {ls : Array Slot} (hR : x_R D s N0 (fixC ad F M ++ XF) h H) (hS : va_S (x_A N0) s.heap H locs) (hk : k + mc ≤ mc0) (hn : n + ms ≤ ms0) (hl : lv_has ls 1 [(0, .ref (ad 1000))]) (hw : wX1_look_b89 post postX gp ad F M h mc ms s0) : W p l e (rmX1_look mc0 ms0) s m args below meth c H locs k n (vx_MQ below (x_Qc D N0 (x_Vv (qCv ad XF post))) (x_XC D N0 (qXC ad XF postX)) args s mc0 ms0 (x_A N0)) (F0 m 89 ls [.int s0, .ref (ad 1000)]) := by
  obtain ⟨⟨hx, hb, hml, hown, hts⟩, hr, hlocks, hG, hN⟩ := id C
  unfold wX1_look_b89 at hw
  refine lv_iconst (v := 1) hx hb dX1_look_89 (by decide) ?_
  obtain ⟨ca107, cb108, mc109, ms110, hca107, hcb108, hw⟩ := hw
  refine x_callXv (x_runVX (n := 2) (As := [.int s0, .int 1]) C hR hS (kX1_must l D N0 gp ad XF s0 1 F M h ca107 cb108 _ _ hlt hw) (lw_V q507 q509 qs11 q85 q510) rfl rfl (by decide +kernel) ⟨Nat.le_of_ble_eq_true rfl, Nat.le_of_ble_eq_true rfl⟩ (x_recv C (hR.rdX 0 rfl) rfl) rfl hl.1 rfl (Nat.le_of_ble_eq_true rfl) dX1_look_90 ⟨x_bud hk hca107, x_bud hn hcb108⟩) hS (fun E9 ce9 q9 X9 h9 H9 locs9 hq9 hR9 hS9 hce9 hcv9 hcl9 => by obtain ⟨F9, M9, e9, hq9⟩ := hq9; rw [e9] at hR9; exact x_outX C hxt hR9 hS9 ⟨_, _, rfl, hq9⟩ hce9 hcv9 hcl9 (x_bud hk hca107) (x_bud hn hcb108)) (fun X1 h112 H locs hq hR hS => ?_)
  clear hw
  obtain ⟨F111, M111, e1, hw⟩ := hq
  rw [e1] at hR
  have hk := x_budN hk hca107
  have hn := x_budN hn hcb108
  refine lv_aload_n hx hb dX1_look_93 rfl (lv_at hl 0 rfl) ?_
  refine lv_iconst (v := 0) hx hb dX1_look_94 (by decide) ?_
  refine x_putX (ci := 0) (Cn := RX1) (T := TX1) (N := 27) (v := .int 0) C hR hS 0 rfl rfl in_X1 tyX1_ok nmX1 13 (by decide) q406 (fun _ h9 => h9) rfl rfl rfl (Nat.le_of_ble_eq_true rfl) (sC_f13 ..) dX1_look_95 (fun H locs hR hS => ?_)
  refine lv_aload_n hx hb dX1_look_98 rfl (lv_at hl 0 rfl) ?_
  refine lv_aload_n hx hb dX1_look_99 rfl (lv_at hl 0 rfl) ?_
  refine x_get (ci := 0) (Cn := RX1) (T := TX1) (N := 27) (v := .int (F111 12)) C (hR.rdX 0 rfl) rfl in_X1 12 (by decide) q405 (fun _ h9 => h9) rfl dX1_look_100 ?_
  refine x_putX (ci := 0) (Cn := RX1) (T := TX1) (N := 27) (v := .int (F111 12)) C hR hS 0 rfl rfl in_X1 tyX1_ok nmX1 14 (by decide) q407 (fun _ h9 => h9) rfl rfl rfl (Nat.le_of_ble_eq_true rfl) (sC_f14 ..) dX1_look_103 (fun H locs hR hS => ?_)
  refine lv_aload_n hx hb dX1_look_106 rfl (lv_at hl 0 rfl) ?_
  refine x_get (ci := 0) (Cn := RX1) (T := TX1) (N := 27) (v := .int (F111 9)) C (hR.rdX 0 rfl) rfl in_X1 9 (by decide) q402 (fun _ h9 => h9) rfl dX1_look_107 ?_
  by_cases c110_0 : (F111 9) = 0
  · replace hw := hw.1 c110_0
    refine lv_tableIn (tgt := 164) (off := 54) hx hb dX1_look_110 (by rw [c110_0]; decide) (by rw [c110_0]; decide) (by rw [c110_0]; decide) (by decide) ?_
    refine lv_aload_n hx hb dX1_look_164 rfl (lv_at hl 0 rfl) ?_
    obtain ⟨ca113, cb114, mc115, ms116, hca113, hcb114, hw⟩ := hw
    refine x_callXv (x_runVX (n := 0) (As := []) C hR hS (kX1_data l D N0 gp ad XF (upd (upd F111 13 0) 14 (F111 12)) M111 h112 ca113 cb114 _ _ hlt hw) (lw_V q574 q576 qs13 q85 q577) rfl rfl (by decide +kernel) ⟨Nat.le_of_ble_eq_true rfl, Nat.le_of_ble_eq_true rfl⟩ (x_recv C (hR.rdX 0 rfl) rfl) rfl hl.1 rfl (Nat.le_of_ble_eq_true rfl) dX1_look_165 ⟨x_bud hk hca113, x_bud hn hcb114⟩) hS (fun E9 ce9 q9 X9 h9 H9 locs9 hq9 hR9 hS9 hce9 hcv9 hcl9 => by obtain ⟨F9, M9, e9, hq9⟩ := hq9; rw [e9] at hR9; exact x_outX C hxt hR9 hS9 ⟨_, _, rfl, hq9⟩ hce9 hcv9 hcl9 (x_bud hk hca113) (x_bud hn hcb114)) (fun X1 h118 H locs hq hR hS => ?_)
    clear hw
    obtain ⟨F117, M117, e1, hw⟩ := hq
    rw [e1] at hR
    have hk := x_budN hk hca113
    have hn := x_budN hn hcb114
    refine lv_goto (tgt := 303) hx hb dX1_look_168 (by decide) ?_
    exact kX1_look_b303 C hlt hxt hR hS hk hn (lv_sub hl [] rfl) hw
  · skip
    by_cases c110_1 : (F111 9) = 1
    · replace hw := hw.2.1 c110_1
      refine lv_tableIn (tgt := 171) (off := 61) hx hb dX1_look_110 (by rw [c110_1]; decide) (by rw [c110_1]; decide) (by rw [c110_1]; decide) (by decide) ?_
      refine lv_aload_n hx hb dX1_look_171 rfl (lv_at hl 0 rfl) ?_
      obtain ⟨ca119, cb120, mc121, ms122, hca119, hcb120, hw⟩ := hw
      refine x_callXv (x_runVX (n := 0) (As := []) C hR hS (kX1_headers l D N0 gp ad XF (upd (upd F111 13 0) 14 (F111 12)) M111 h112 ca119 cb120 _ _ hlt hw) (lw_V q664 q666 qs24 q85 q667) rfl rfl (by decide +kernel) ⟨Nat.le_of_ble_eq_true rfl, Nat.le_of_ble_eq_true rfl⟩ (x_recv C (hR.rdX 0 rfl) rfl) rfl hl.1 rfl (Nat.le_of_ble_eq_true rfl) dX1_look_172 ⟨x_bud hk hca119, x_bud hn hcb120⟩) hS (fun E9 ce9 q9 X9 h9 H9 locs9 hq9 hR9 hS9 hce9 hcv9 hcl9 => by obtain ⟨F9, M9, e9, hq9⟩ := hq9; rw [e9] at hR9; exact x_outX C hxt hR9 hS9 ⟨_, _, rfl, hq9⟩ hce9 hcv9 hcl9 (x_bud hk hca119) (x_bud hn hcb120)) (fun X1 h124 H locs hq hR hS => ?_)
      clear hw
      obtain ⟨F123, M123, e1, hw⟩ := hq
      rw [e1] at hR
      have hk := x_budN hk hca119
      have hn := x_budN hn hcb120
      refine lv_goto (tgt := 303) hx hb dX1_look_175 (by decide) ?_
      exact kX1_look_b303 C hlt hxt hR hS hk hn (lv_sub hl [] rfl) hw
    · skip
      by_cases c110_3 : (F111 9) = 3
      · replace hw := hw.2.2.1 c110_3
        refine lv_tableIn (tgt := 185) (off := 75) hx hb dX1_look_110 (by rw [c110_3]; decide) (by rw [c110_3]; decide) (by rw [c110_3]; decide) (by decide) ?_
        refine lv_aload_n hx hb dX1_look_185 rfl (lv_at hl 0 rfl) ?_
        refine lv_aload_n hx hb dX1_look_186 rfl (lv_at hl 0 rfl) ?_
        refine x_get (ci := 0) (Cn := RX1) (T := TX1) (N := 27) (v := .int (F111 12)) C (hR.rdX 0 rfl) rfl in_X1 12 (by decide) q405 (fun _ h9 => h9) rfl dX1_look_187 ?_
        refine lv_iconst (v := 1) hx hb dX1_look_190 (by decide) ?_
        refine lv_icmp_ne (tgt := 198) hx hb dX1_look_191 (by decide) (fun c125 => ?_) (fun c125 => ?_)
        · replace hw := hw.2 c125
          refine lv_iconst (v := 0) hx hb dX1_look_198 (by decide) ?_
          exact kX1_look_b199 C hlt hxt hR hS hk hn (lv_sub hl [0] rfl) hw
        · replace hw := hw.1 c125
          refine lv_iconst (v := 1) hx hb dX1_look_194 (by decide) ?_
          refine lv_goto (tgt := 199) hx hb dX1_look_195 (by decide) ?_
          exact kX1_look_b199 C hlt hxt hR hS hk hn (lv_sub hl [0] rfl) hw
      · skip
        by_cases c110_4 : (F111 9) = 4
        · replace hw := hw.2.2.2.1 c110_4
          refine lv_tableIn (tgt := 243) (off := 133) hx hb dX1_look_110 (by rw [c110_4]; decide) (by rw [c110_4]; decide) (by rw [c110_4]; decide) (by decide) ?_
          refine lv_aload_n hx hb dX1_look_243 rfl (lv_at hl 0 rfl) ?_
          obtain ⟨ca126, cb127, mc128, ms129, hca126, hcb127, hw⟩ := hw
          refine x_callXv (x_runVX (n := 0) (As := []) C hR hS (kX1_settings l D N0 gp ad XF (upd (upd F111 13 0) 14 (F111 12)) M111 h112 ca126 cb127 _ _ hlt hw) (lw_V q1037 q1039 qs32 q85 q1040) rfl rfl (by decide +kernel) ⟨Nat.le_of_ble_eq_true rfl, Nat.le_of_ble_eq_true rfl⟩ (x_recv C (hR.rdX 0 rfl) rfl) rfl hl.1 rfl (Nat.le_of_ble_eq_true rfl) dX1_look_244 ⟨x_bud hk hca126, x_bud hn hcb127⟩) hS (fun E9 ce9 q9 X9 h9 H9 locs9 hq9 hR9 hS9 hce9 hcv9 hcl9 => by obtain ⟨F9, M9, e9, hq9⟩ := hq9; rw [e9] at hR9; exact x_outX C hxt hR9 hS9 ⟨_, _, rfl, hq9⟩ hce9 hcv9 hcl9 (x_bud hk hca126) (x_bud hn hcb127)) (fun X1 h131 H locs hq hR hS => ?_)
          clear hw
          obtain ⟨F130, M130, e1, hw⟩ := hq
          rw [e1] at hR
          have hk := x_budN hk hca126
          have hn := x_budN hn hcb127
          refine lv_goto (tgt := 303) hx hb dX1_look_247 (by decide) ?_
          exact kX1_look_b303 C hlt hxt hR hS hk hn (lv_sub hl [] rfl) hw
        · skip
          by_cases c110_6 : (F111 9) = 6
          · replace hw := hw.2.2.2.2.1 c110_6
            refine lv_tableIn (tgt := 250) (off := 140) hx hb dX1_look_110 (by rw [c110_6]; decide) (by rw [c110_6]; decide) (by rw [c110_6]; decide) (by decide) ?_
            refine lv_aload_n hx hb dX1_look_250 rfl (lv_at hl 0 rfl) ?_
            obtain ⟨ca132, cb133, mc134, ms135, hca132, hcb133, hw⟩ := hw
            refine x_callXv (x_runVX (n := 0) (As := []) C hR hS (kX1_ping l D N0 gp ad XF (upd (upd F111 13 0) 14 (F111 12)) M111 h112 ca132 cb133 _ _ hlt hw) (lw_V q1041 q1043 qs33 q85 q1044) rfl rfl (by decide +kernel) ⟨Nat.le_of_ble_eq_true rfl, Nat.le_of_ble_eq_true rfl⟩ (x_recv C (hR.rdX 0 rfl) rfl) rfl hl.1 rfl (Nat.le_of_ble_eq_true rfl) dX1_look_251 ⟨x_bud hk hca132, x_bud hn hcb133⟩) hS (fun E9 ce9 q9 X9 h9 H9 locs9 hq9 hR9 hS9 hce9 hcv9 hcl9 => by obtain ⟨F9, M9, e9, hq9⟩ := hq9; rw [e9] at hR9; exact x_outX C hxt hR9 hS9 ⟨_, _, rfl, hq9⟩ hce9 hcv9 hcl9 (x_bud hk hca132) (x_bud hn hcb133)) (fun X1 h137 H locs hq hR hS => ?_)
            clear hw
            obtain ⟨F136, M136, e1, hw⟩ := hq
            rw [e1] at hR
            have hk := x_budN hk hca132
            have hn := x_budN hn hcb133
            refine lv_goto (tgt := 303) hx hb dX1_look_254 (by decide) ?_
            exact kX1_look_b303 C hlt hxt hR hS hk hn (lv_sub hl [] rfl) hw
          · skip
            by_cases c110_7 : (F111 9) = 7
            · replace hw := hw.2.2.2.2.2.1 c110_7
              refine lv_tableIn (tgt := 257) (off := 147) hx hb dX1_look_110 (by rw [c110_7]; decide) (by rw [c110_7]; decide) (by rw [c110_7]; decide) (by decide) ?_
              refine lv_aload_n hx hb dX1_look_257 rfl (lv_at hl 0 rfl) ?_
              refine lv_aload_n hx hb dX1_look_258 rfl (lv_at hl 0 rfl) ?_
              refine x_get (ci := 0) (Cn := RX1) (T := TX1) (N := 27) (v := .int (F111 11)) C (hR.rdX 0 rfl) rfl in_X1 11 (by decide) q404 (fun _ h9 => h9) rfl dX1_look_259 ?_
              refine lv_if_ne (tgt := 269) hx hb dX1_look_262 (by decide) (fun c138 => ?_) (fun c138 => ?_)
              · replace hw := hw.2 c138
                refine lv_iconst (v := 0) hx hb dX1_look_269 (by decide) ?_
                exact kX1_look_b270 C hlt hxt hR hS hk hn (lv_sub hl [0] rfl) hw
              · replace hw := hw.1 c138
                refine lv_iconst (v := 1) hx hb dX1_look_265 (by decide) ?_
                refine lv_goto (tgt := 270) hx hb dX1_look_266 (by decide) ?_
                exact kX1_look_b270 C hlt hxt hR hS hk hn (lv_sub hl [0] rfl) hw
            · skip
              by_cases c110_8 : (F111 9) = 8
              · replace hw := hw.2.2.2.2.2.2.1 c110_8
                refine lv_tableIn (tgt := 296) (off := 186) hx hb dX1_look_110 (by rw [c110_8]; decide) (by rw [c110_8]; decide) (by rw [c110_8]; decide) (by decide) ?_
                refine lv_aload_n hx hb dX1_look_296 rfl (lv_at hl 0 rfl) ?_
                obtain ⟨ca139, cb140, mc141, ms142, hca139, hcb140, hw⟩ := hw
                refine x_callXv (x_runVX (n := 0) (As := []) C hR hS (kX1_widen l D N0 gp ad XF (upd (upd F111 13 0) 14 (F111 12)) M111 h112 ca139 cb140 _ _ hlt hw) (lw_V q1045 q1047 qs34 q85 q1048) rfl rfl (by decide +kernel) ⟨Nat.le_of_ble_eq_true rfl, Nat.le_of_ble_eq_true rfl⟩ (x_recv C (hR.rdX 0 rfl) rfl) rfl hl.1 rfl (Nat.le_of_ble_eq_true rfl) dX1_look_297 ⟨x_bud hk hca139, x_bud hn hcb140⟩) hS (fun E9 ce9 q9 X9 h9 H9 locs9 hq9 hR9 hS9 hce9 hcv9 hcl9 => by obtain ⟨F9, M9, e9, hq9⟩ := hq9; rw [e9] at hR9; exact x_outX C hxt hR9 hS9 ⟨_, _, rfl, hq9⟩ hce9 hcv9 hcl9 (x_bud hk hca139) (x_bud hn hcb140)) (fun X1 h144 H locs hq hR hS => ?_)
                clear hw
                obtain ⟨F143, M143, e1, hw⟩ := hq
                rw [e1] at hR
                have hk := x_budN hk hca139
                have hn := x_budN hn hcb140
                refine lv_goto (tgt := 303) hx hb dX1_look_300 (by decide) ?_
                exact kX1_look_b303 C hlt hxt hR hS hk hn (lv_sub hl [] rfl) hw
              · skip
                by_cases c110_9 : (F111 9) = 9
                · replace hw := hw.2.2.2.2.2.2.2.1 c110_9
                  refine lv_tableIn (tgt := 178) (off := 68) hx hb dX1_look_110 (by rw [c110_9]; decide) (by rw [c110_9]; decide) (by rw [c110_9]; decide) (by decide) ?_
                  refine lv_aload_n hx hb dX1_look_178 rfl (lv_at hl 0 rfl) ?_
                  obtain ⟨ca145, cb146, mc147, ms148, hca145, hcb146, hw⟩ := hw
                  refine x_callXv (x_runVX (n := 0) (As := []) C hR hS (kX1_more l D N0 gp ad XF (upd (upd F111 13 0) 14 (F111 12)) M111 h112 ca145 cb146 _ _ hlt hw) (lw_V q668 q670 qs25 q85 q671) rfl rfl (by decide +kernel) ⟨Nat.le_of_ble_eq_true rfl, Nat.le_of_ble_eq_true rfl⟩ (x_recv C (hR.rdX 0 rfl) rfl) rfl hl.1 rfl (Nat.le_of_ble_eq_true rfl) dX1_look_179 ⟨x_bud hk hca145, x_bud hn hcb146⟩) hS (fun E9 ce9 q9 X9 h9 H9 locs9 hq9 hR9 hS9 hce9 hcv9 hcl9 => by obtain ⟨F9, M9, e9, hq9⟩ := hq9; rw [e9] at hR9; exact x_outX C hxt hR9 hS9 ⟨_, _, rfl, hq9⟩ hce9 hcv9 hcl9 (x_bud hk hca145) (x_bud hn hcb146)) (fun X1 h150 H locs hq hR hS => ?_)
                  clear hw
                  obtain ⟨F149, M149, e1, hw⟩ := hq
                  rw [e1] at hR
                  have hk := x_budN hk hca145
                  have hn := x_budN hn hcb146
                  refine lv_goto (tgt := 303) hx hb dX1_look_182 (by decide) ?_
                  exact kX1_look_b303 C hlt hxt hR hS hk hn (lv_sub hl [] rfl) hw
                · skip
                  replace hw := hw.2.2.2.2.2.2.2.2 c110_0 c110_1 c110_3 c110_4 c110_6 c110_7 c110_8 c110_9
                  by_cases c110_2 : (F111 9) = 2
                  · refine lv_tableIn (tgt := 303) (off := 193) hx hb dX1_look_110 (by rw [c110_2]; decide) (by rw [c110_2]; decide) (by rw [c110_2]; decide) (by decide) ?_
                    exact kX1_look_b303 C hlt hxt hR hS hk hn (lv_sub hl [] rfl) hw
                  · skip
                    by_cases c110_5 : (F111 9) = 5
                    · refine lv_tableIn (tgt := 303) (off := 193) hx hb dX1_look_110 (by rw [c110_5]; decide) (by rw [c110_5]; decide) (by rw [c110_5]; decide) (by decide) ?_
                      exact kX1_look_b303 C hlt hxt hR hS hk hn (lv_sub hl [] rfl) hw
                    · skip
                      have tc110_0 := lv_neT (a := 0) c110_0 (by decide)
                      have tc110_1 := lv_neT (a := 1) c110_1 (by decide)
                      have tc110_2 := lv_neT (a := 2) c110_2 (by decide)
                      have tc110_3 := lv_neT (a := 3) c110_3 (by decide)
                      have tc110_4 := lv_neT (a := 4) c110_4 (by decide)
                      have tc110_5 := lv_neT (a := 5) c110_5 (by decide)
                      have tc110_6 := lv_neT (a := 6) c110_6 (by decide)
                      have tc110_7 := lv_neT (a := 7) c110_7 (by decide)
                      have tc110_8 := lv_neT (a := 8) c110_8 (by decide)
                      have tc110_9 := lv_neT (a := 9) c110_9 (by decide)
                      refine lv_tableOut (tgt := 303) hx hb dX1_look_110 (by omega) (by decide) ?_
                      exact kX1_look_b303 C hlt hxt hR hS hk hn (lv_sub hl [] rfl) hw
def wX1_look_b88 (post : (Nat → Int32) → (Nat → Nat → Int32) → x_H → Prop) (postX : String → (Nat → Int32) → (Nat → Nat → Int32) → x_H → Prop) (gp : Nat → Nat) (ad : Nat → Nat)  (F : (Nat → Int32)) (M : (Nat → Nat → Int32)) (h : x_H) (mc : Nat) (ms : Nat) : Prop :=
  wX1_look_b89 post postX gp ad F M h mc ms 0
theorem kX1_look_b88 {post : (Nat → Int32) → (Nat → Nat → Int32) → x_H → Prop} {postX : String → (Nat → Int32) → (Nat → Nat → Int32) → x_H → Prop} (C : x_C p s m args meth c cX1_look 1 none RX1 D N0 gp) (hlt : l.stackTraces = false) (hxt : ∀ x ∈ c.exceptionTable.toList, False) {F : (Nat → Int32)} {M : (Nat → Nat → Int32)} {h : x_H} {mc : Nat} {ms : Nat} {k n : Nat} {H : Heap} {locs : List Loc} {ls : Array Slot} (hR : x_R D s N0 (fixC ad F M ++ XF) h H) (hS : va_S (x_A N0) s.heap H locs) (hk : k + mc ≤ mc0) (hn : n + ms ≤ ms0) (hl : lv_has ls 1 [(0, .ref (ad 1000))]) (hw : wX1_look_b88 post postX gp ad F M h mc ms) : W p l e (rmX1_look mc0 ms0) s m args below meth c H locs k n (vx_MQ below (x_Qc D N0 (x_Vv (qCv ad XF post))) (x_XC D N0 (qXC ad XF postX)) args s mc0 ms0 (x_A N0)) (F0 m 88 ls [.ref (ad 1000)]) := by
  obtain ⟨⟨hx, hb, hml, hown, hts⟩, hr, hlocks, hG, hN⟩ := id C
  unfold wX1_look_b88 at hw
  refine lv_iconst (v := 0) hx hb dX1_look_88 (by decide) ?_
  exact kX1_look_b89 C hlt hxt hR hS hk hn (lv_sub hl [0] rfl) hw
def wX1_look_b29 (post : (Nat → Int32) → (Nat → Nat → Int32) → x_H → Prop) (postX : String → (Nat → Int32) → (Nat → Nat → Int32) → x_H → Prop) (gp : Nat → Nat) (ad : Nat → Nat)  (F : (Nat → Int32)) (M : (Nat → Nat → Int32)) (h : x_H) (mc : Nat) (ms : Nat) (s0 : Int32) : Prop :=
  ∃ ca97 cb98 mc99 ms100 : Nat, ca97 + mc99 ≤ mc ∧ cb98 + ms100 ≤ ms ∧ wX1_must (fun F101 M101 h102 => ((F101 16) = (-1) → ((F101 9) = 9 → wX1_look_b89 post postX gp ad (upd F101 15 0) M101 h102 mc99 ms100 0) ∧ (¬ (F101 9) = 9 → wX1_look_b89 post postX gp ad (upd F101 15 0) M101 h102 mc99 ms100 1)) ∧ (¬ (F101 16) = (-1) → ((F101 9) = 9 → ((F101 11) = (F101 16) → wX1_look_b89 post postX gp ad (upd F101 15 0) M101 h102 mc99 ms100 1) ∧ (¬ (F101 11) = (F101 16) → wX1_look_b88 post postX gp ad (upd F101 15 0) M101 h102 mc99 ms100)) ∧ (¬ (F101 9) = 9 → wX1_look_b88 post postX gp ad (upd F101 15 0) M101 h102 mc99 ms100))) postX ad s0 1 F M h ca97 cb98
theorem kX1_look_b29 {post : (Nat → Int32) → (Nat → Nat → Int32) → x_H → Prop} {postX : String → (Nat → Int32) → (Nat → Nat → Int32) → x_H → Prop} (C : x_C p s m args meth c cX1_look 1 none RX1 D N0 gp) (hlt : l.stackTraces = false) (hxt : ∀ x ∈ c.exceptionTable.toList, False) {F : (Nat → Int32)} {M : (Nat → Nat → Int32)} {h : x_H} {mc : Nat} {ms : Nat} {s0 : Int32} {k n : Nat} {H : Heap} {locs : List Loc} {ls : Array Slot} (hR : x_R D s N0 (fixC ad F M ++ XF) h H) (hS : va_S (x_A N0) s.heap H locs) (hk : k + mc ≤ mc0) (hn : n + ms ≤ ms0) (hl : lv_has ls 1 [(0, .ref (ad 1000))]) (hw : wX1_look_b29 post postX gp ad F M h mc ms s0) : W p l e (rmX1_look mc0 ms0) s m args below meth c H locs k n (vx_MQ below (x_Qc D N0 (x_Vv (qCv ad XF post))) (x_XC D N0 (qXC ad XF postX)) args s mc0 ms0 (x_A N0)) (F0 m 29 ls [.int s0, .ref (ad 1000)]) := by
  obtain ⟨⟨hx, hb, hml, hown, hts⟩, hr, hlocks, hG, hN⟩ := id C
  unfold wX1_look_b29 at hw
  refine lv_iconst (v := 1) hx hb dX1_look_29 (by decide) ?_
  obtain ⟨ca97, cb98, mc99, ms100, hca97, hcb98, hw⟩ := hw
  refine x_callXv (x_runVX (n := 2) (As := [.int s0, .int 1]) C hR hS (kX1_must l D N0 gp ad XF s0 1 F M h ca97 cb98 _ _ hlt hw) (lw_V q507 q509 qs11 q85 q510) rfl rfl (by decide +kernel) ⟨Nat.le_of_ble_eq_true rfl, Nat.le_of_ble_eq_true rfl⟩ (x_recv C (hR.rdX 0 rfl) rfl) rfl hl.1 rfl (Nat.le_of_ble_eq_true rfl) dX1_look_30 ⟨x_bud hk hca97, x_bud hn hcb98⟩) hS (fun E9 ce9 q9 X9 h9 H9 locs9 hq9 hR9 hS9 hce9 hcv9 hcl9 => by obtain ⟨F9, M9, e9, hq9⟩ := hq9; rw [e9] at hR9; exact x_outX C hxt hR9 hS9 ⟨_, _, rfl, hq9⟩ hce9 hcv9 hcl9 (x_bud hk hca97) (x_bud hn hcb98)) (fun X1 h102 H locs hq hR hS => ?_)
  clear hw
  obtain ⟨F101, M101, e1, hw⟩ := hq
  rw [e1] at hR
  have hk := x_budN hk hca97
  have hn := x_budN hn hcb98
  refine lv_aload_n hx hb dX1_look_33 rfl (lv_at hl 0 rfl) ?_
  refine lv_iconst (v := 0) hx hb dX1_look_34 (by decide) ?_
  refine x_putX (ci := 0) (Cn := RX1) (T := TX1) (N := 27) (v := .int 0) C hR hS 0 rfl rfl in_X1 tyX1_ok nmX1 15 (by decide) q408 (fun _ h9 => h9) rfl rfl rfl (Nat.le_of_ble_eq_true rfl) (sC_f15 ..) dX1_look_35 (fun H locs hR hS => ?_)
  refine lv_aload_n hx hb dX1_look_38 rfl (lv_at hl 0 rfl) ?_
  refine lv_aload_n hx hb dX1_look_39 rfl (lv_at hl 0 rfl) ?_
  refine x_get (ci := 0) (Cn := RX1) (T := TX1) (N := 27) (v := .int (F101 16)) C (hR.rdX 0 rfl) rfl in_X1 16 (by decide) q409 (fun _ h9 => h9) rfl dX1_look_40 ?_
  refine lv_iconst (v := -1) hx hb dX1_look_43 (by decide) ?_
  refine lv_icmp_ne (tgt := 64) hx hb dX1_look_44 (by decide) (fun c103 => ?_) (fun c103 => ?_)
  · replace hw := hw.2 c103
    refine lv_aload_n hx hb dX1_look_64 rfl (lv_at hl 0 rfl) ?_
    refine x_get (ci := 0) (Cn := RX1) (T := TX1) (N := 27) (v := .int (F101 9)) C (hR.rdX 0 rfl) rfl in_X1 9 (by decide) q402 (fun _ h9 => h9) rfl dX1_look_65 ?_
    refine lv_bipush (v := 9) hx hb dX1_look_68 (by decide) ?_
    refine lv_icmp_ne (tgt := 88) hx hb dX1_look_70 (by decide) (fun c104 => ?_) (fun c104 => ?_)
    · replace hw := hw.2 c104
      exact kX1_look_b88 C hlt hxt hR hS hk hn (lv_sub hl [0] rfl) hw
    · replace hw := hw.1 c104
      refine lv_aload_n hx hb dX1_look_73 rfl (lv_at hl 0 rfl) ?_
      refine x_get (ci := 0) (Cn := RX1) (T := TX1) (N := 27) (v := .int (F101 11)) C (hR.rdX 0 rfl) rfl in_X1 11 (by decide) q404 (fun _ h9 => h9) rfl dX1_look_74 ?_
      refine lv_aload_n hx hb dX1_look_77 rfl (lv_at hl 0 rfl) ?_
      refine x_get (ci := 0) (Cn := RX1) (T := TX1) (N := 27) (v := .int (F101 16)) C (hR.rdX 0 rfl) rfl in_X1 16 (by decide) q409 (fun _ h9 => h9) rfl dX1_look_78 ?_
      refine lv_icmp_ne (tgt := 88) hx hb dX1_look_81 (by decide) (fun c105 => ?_) (fun c105 => ?_)
      · replace hw := hw.2 c105
        exact kX1_look_b88 C hlt hxt hR hS hk hn (lv_sub hl [0] rfl) hw
      · replace hw := hw.1 c105
        refine lv_iconst (v := 1) hx hb dX1_look_84 (by decide) ?_
        refine lv_goto (tgt := 89) hx hb dX1_look_85 (by decide) ?_
        exact kX1_look_b89 C hlt hxt hR hS hk hn (lv_sub hl [0] rfl) hw
  · replace hw := hw.1 c103
    refine lv_aload_n hx hb dX1_look_47 rfl (lv_at hl 0 rfl) ?_
    refine x_get (ci := 0) (Cn := RX1) (T := TX1) (N := 27) (v := .int (F101 9)) C (hR.rdX 0 rfl) rfl in_X1 9 (by decide) q402 (fun _ h9 => h9) rfl dX1_look_48 ?_
    refine lv_bipush (v := 9) hx hb dX1_look_51 (by decide) ?_
    refine lv_icmp_eq (tgt := 60) hx hb dX1_look_53 (by decide) (fun c106 => ?_) (fun c106 => ?_)
    · replace hw := hw.1 c106
      refine lv_iconst (v := 0) hx hb dX1_look_60 (by decide) ?_
      refine lv_goto (tgt := 89) hx hb dX1_look_61 (by decide) ?_
      exact kX1_look_b89 C hlt hxt hR hS hk hn (lv_sub hl [0] rfl) hw
    · replace hw := hw.2 c106
      refine lv_iconst (v := 1) hx hb dX1_look_56 (by decide) ?_
      refine lv_goto (tgt := 89) hx hb dX1_look_57 (by decide) ?_
      exact kX1_look_b89 C hlt hxt hR hS hk hn (lv_sub hl [0] rfl) hw
def wX1_look_b24 (post : (Nat → Int32) → (Nat → Nat → Int32) → x_H → Prop) (postX : String → (Nat → Int32) → (Nat → Nat → Int32) → x_H → Prop) (gp : Nat → Nat) (ad : Nat → Nat)  (F : (Nat → Int32)) (M : (Nat → Nat → Int32)) (h : x_H) (mc : Nat) (ms : Nat) : Prop :=
  wX1_look_b29 post postX gp ad F M h mc ms 1
theorem kX1_look_b24 {post : (Nat → Int32) → (Nat → Nat → Int32) → x_H → Prop} {postX : String → (Nat → Int32) → (Nat → Nat → Int32) → x_H → Prop} (C : x_C p s m args meth c cX1_look 1 none RX1 D N0 gp) (hlt : l.stackTraces = false) (hxt : ∀ x ∈ c.exceptionTable.toList, False) {F : (Nat → Int32)} {M : (Nat → Nat → Int32)} {h : x_H} {mc : Nat} {ms : Nat} {k n : Nat} {H : Heap} {locs : List Loc} {ls : Array Slot} (hR : x_R D s N0 (fixC ad F M ++ XF) h H) (hS : va_S (x_A N0) s.heap H locs) (hk : k + mc ≤ mc0) (hn : n + ms ≤ ms0) (hl : lv_has ls 1 [(0, .ref (ad 1000))]) (hw : wX1_look_b24 post postX gp ad F M h mc ms) : W p l e (rmX1_look mc0 ms0) s m args below meth c H locs k n (vx_MQ below (x_Qc D N0 (x_Vv (qCv ad XF post))) (x_XC D N0 (qXC ad XF postX)) args s mc0 ms0 (x_A N0)) (F0 m 24 ls [.ref (ad 1000)]) := by
  obtain ⟨⟨hx, hb, hml, hown, hts⟩, hr, hlocks, hG, hN⟩ := id C
  unfold wX1_look_b24 at hw
  refine lv_iconst (v := 1) hx hb dX1_look_24 (by decide) ?_
  refine lv_goto (tgt := 29) hx hb dX1_look_25 (by decide) ?_
  exact kX1_look_b29 C hlt hxt hR hS hk hn (lv_sub hl [0] rfl) hw
def wX1_look_b28 (post : (Nat → Int32) → (Nat → Nat → Int32) → x_H → Prop) (postX : String → (Nat → Int32) → (Nat → Nat → Int32) → x_H → Prop) (gp : Nat → Nat) (ad : Nat → Nat)  (F : (Nat → Int32)) (M : (Nat → Nat → Int32)) (h : x_H) (mc : Nat) (ms : Nat) : Prop :=
  wX1_look_b29 post postX gp ad F M h mc ms 0
theorem kX1_look_b28 {post : (Nat → Int32) → (Nat → Nat → Int32) → x_H → Prop} {postX : String → (Nat → Int32) → (Nat → Nat → Int32) → x_H → Prop} (C : x_C p s m args meth c cX1_look 1 none RX1 D N0 gp) (hlt : l.stackTraces = false) (hxt : ∀ x ∈ c.exceptionTable.toList, False) {F : (Nat → Int32)} {M : (Nat → Nat → Int32)} {h : x_H} {mc : Nat} {ms : Nat} {k n : Nat} {H : Heap} {locs : List Loc} {ls : Array Slot} (hR : x_R D s N0 (fixC ad F M ++ XF) h H) (hS : va_S (x_A N0) s.heap H locs) (hk : k + mc ≤ mc0) (hn : n + ms ≤ ms0) (hl : lv_has ls 1 [(0, .ref (ad 1000))]) (hw : wX1_look_b28 post postX gp ad F M h mc ms) : W p l e (rmX1_look mc0 ms0) s m args below meth c H locs k n (vx_MQ below (x_Qc D N0 (x_Vv (qCv ad XF post))) (x_XC D N0 (qXC ad XF postX)) args s mc0 ms0 (x_A N0)) (F0 m 28 ls [.ref (ad 1000)]) := by
  obtain ⟨⟨hx, hb, hml, hown, hts⟩, hr, hlocks, hG, hN⟩ := id C
  unfold wX1_look_b28 at hw
  refine lv_iconst (v := 0) hx hb dX1_look_28 (by decide) ?_
  exact kX1_look_b29 C hlt hxt hR hS hk hn (lv_sub hl [0] rfl) hw
end
def wX1_look (post : (Nat → Int32) → (Nat → Nat → Int32) → x_H → Prop) (postX : String → (Nat → Int32) → (Nat → Nat → Int32) → x_H → Prop) (gp : Nat → Nat) (ad : Nat → Nat)  (F : (Nat → Int32)) (M : (Nat → Nat → Int32)) (h : x_H) (mc : Nat) (ms : Nat) : Prop :=
  ((F 15) = 0 → wX1_look_b24 post postX gp ad F M h mc ms) ∧ (¬ (F 15) = 0 → ((F 9) = 4 → wX1_has (fun r95 => (r95 = 0 → wX1_look_b24 post postX gp ad F M h mc ms) ∧ (¬ r95 = 0 → wX1_look_b28 post postX gp ad F M h mc ms)) ad 1 F M h) ∧ (¬ (F 9) = 4 → wX1_look_b28 post postX gp ad F M h mc ms))
theorem kX1_look (l : Launch) (D : va_G) (N0 : Nat) (gp : Nat → Nat) (ad : Nat → Nat) (XF : x_X)  (F : (Nat → Int32)) (M : (Nat → Nat → Int32)) (h : x_H) (mc : Nat) (ms : Nat) (post : (Nat → Int32) → (Nat → Nat → Int32) → x_H → Prop) (postX : String → (Nat → Int32) → (Nat → Nat → Int32) → x_H → Prop) (hlt : l.stackTraces = false) (hw : wX1_look post postX gp ad F M h mc ms) : vx_Met l yX1_look (ws_ yX1_look cX1_look 1 none) (rmX1_look mc ms) (x_Pc D N0 gp (fixC ad F M ++ XF) h [.ref (ad 1000)]) (x_Qc D N0 (x_Vv (qCv ad XF post))) (x_XC D N0 (qXC ad XF postX)) mc ms (x_A N0) := by
  refine x_startX (lv := [(0, .ref (ad 1000))]) (by decide) rfl (Nat.le_of_ble_eq_true rfl) rfl ?_
  intro p e s m below meth c C hxt hR ls hl
  have hS : va_S (x_A N0) s.heap s.heap [] := va_S.rf
  obtain ⟨⟨hx, hb, hml, hown, hts⟩, hr, hlocks, hG, hN⟩ := id C
  unfold wX1_look at hw
  have hk : 0 + mc ≤ mc := Nat.le_of_eq (Nat.zero_add _)
  have hn : 0 + ms ≤ ms := Nat.le_of_eq (Nat.zero_add _)
  refine lv_aload_n hx hb dX1_look_0 rfl (lv_at hl 0 rfl) ?_
  refine lv_aload_n hx hb dX1_look_1 rfl (lv_at hl 0 rfl) ?_
  refine x_get (ci := 0) (Cn := RX1) (T := TX1) (N := 27) (v := .int (F 15)) C (hR.rdX 0 rfl) rfl in_X1 15 (by decide) q408 (fun _ h9 => h9) rfl dX1_look_2 ?_
  refine lv_if_eq (tgt := 24) hx hb dX1_look_5 (by decide) (fun c93 => ?_) (fun c93 => ?_)
  · replace hw := hw.1 c93
    exact kX1_look_b24 C hlt hxt hR hS hk hn (lv_sub hl [0] rfl) hw
  · replace hw := hw.2 c93
    refine lv_aload_n hx hb dX1_look_8 rfl (lv_at hl 0 rfl) ?_
    refine x_get (ci := 0) (Cn := RX1) (T := TX1) (N := 27) (v := .int (F 9)) C (hR.rdX 0 rfl) rfl in_X1 9 (by decide) q402 (fun _ h9 => h9) rfl dX1_look_9 ?_
    refine lv_iconst (v := 4) hx hb dX1_look_12 (by decide) ?_
    refine lv_icmp_ne (tgt := 28) hx hb dX1_look_13 (by decide) (fun c94 => ?_) (fun c94 => ?_)
    · replace hw := hw.2 c94
      exact kX1_look_b28 C hlt hxt hR hS hk hn (lv_sub hl [0] rfl) hw
    · replace hw := hw.1 c94
      refine lv_aload_n hx hb dX1_look_16 rfl (lv_at hl 0 rfl) ?_
      refine lv_iconst (v := 1) hx hb dX1_look_17 (by decide) ?_
      refine x_calli0 (x_runV (n := 1) (As := [.int 1]) C hR hS (kX1_has l D N0 gp ad XF 1 F M h _ hw) (lw_V q503 q505 qs10 q85 q506) rfl rfl (by decide +kernel) ⟨Nat.le_of_ble_eq_true rfl, Nat.le_of_ble_eq_true rfl⟩ (x_recv C (hR.rdX 0 rfl) rfl) rfl hl.1 rfl (Nat.le_of_ble_eq_true rfl) dX1_look_18 ⟨x_bud0 hk, x_bud0 hn⟩) hS (fun r95 X1 h1 H locs hq hR hS => ?_)
      clear hw
      obtain ⟨e1, e2, hw⟩ := hq
      rw [e1, e2] at hR
      refine lv_if_ne (tgt := 28) hx hb dX1_look_21 (by decide) (fun c96 => ?_) (fun c96 => ?_)
      · replace hw := hw.2 c96
        exact kX1_look_b28 C hlt hxt hR hS hk hn (lv_sub hl [0] rfl) hw
      · replace hw := hw.1 c96
        exact kX1_look_b24 C hlt hxt hR hS hk hn (lv_sub hl [0] rfl) hw
/-- PageServer.reset()V -/
abbrev rmX1_reset (mc0 ms0 : Nat) : Room := { frames := 8, cells := mc0, slots := ms0, locals := 194 }
section
variable {p : Program} {l : Launch} {e : Env} {s : State} {m : MethodId} {args : Array Value} {below : List Frame} {meth : Method} {c : Code} {D : va_G} {N0 : Nat} {gp : Nat → Nat} {ad : Nat → Nat} {XF : x_X} {mc0 ms0 : Nat}
end
def wX1_reset (post : (Nat → Int32) → (Nat → Nat → Int32) → x_H → Prop) (gp : Nat → Nat) (ad : Nat → Nat)  (F : (Nat → Int32)) (M : (Nat → Nat → Int32)) (h : x_H) (mc : Nat) (ms : Nat) : Prop :=
  wX1_head (fun F11 M11 h12 => wX1_say (fun F13 M13 h14 => ∃ ca15 cb16 mc17 ms18 : Nat, ca15 + mc17 ≤ mc ∧ cb16 + ms18 ≤ ms ∧ wX1_over (fun F19 M19 h20 => post F19 M19 h20) gp ad (F13 11) F13 M13 h14 ca15 cb16) ad (F11 20) F11 M11 h12) ad 1 3 0 (F 11) F M h
theorem kX1_reset (l : Launch) (D : va_G) (N0 : Nat) (gp : Nat → Nat) (ad : Nat → Nat) (XF : x_X)  (F : (Nat → Int32)) (M : (Nat → Nat → Int32)) (h : x_H) (mc : Nat) (ms : Nat) (post : (Nat → Int32) → (Nat → Nat → Int32) → x_H → Prop) (hw : wX1_reset post gp ad F M h mc ms) : Met l yX1_reset (ws_ yX1_reset cX1_reset 1 none) (rmX1_reset mc ms) (x_Pc D N0 gp (fixC ad F M ++ XF) h [.ref (ad 1000)]) (x_Qc D N0 (x_Vv (qCv ad XF post))) mc ms (x_A N0) := by
  refine x_start (lv := [(0, .ref (ad 1000))]) (by decide) rfl (Nat.le_of_ble_eq_true rfl) rfl ?_
  intro p e s m below meth c C hR ls hl
  have hS : va_S (x_A N0) s.heap s.heap [] := va_S.rf
  obtain ⟨⟨hx, hb, hml, hown, hts⟩, hr, hlocks, hG, hN⟩ := id C
  unfold wX1_reset at hw
  have hk : 0 + mc ≤ mc := Nat.le_of_eq (Nat.zero_add _)
  have hn : 0 + ms ≤ ms := Nat.le_of_eq (Nat.zero_add _)
  refine lv_aload_n hx hb dX1_reset_0 rfl (lv_at hl 0 rfl) ?_
  refine lv_iconst (v := 1) hx hb dX1_reset_1 (by decide) ?_
  refine lv_iconst (v := 3) hx hb dX1_reset_2 (by decide) ?_
  refine lv_iconst (v := 0) hx hb dX1_reset_3 (by decide) ?_
  refine lv_aload_n hx hb dX1_reset_4 rfl (lv_at hl 0 rfl) ?_
  refine x_get (ci := 0) (Cn := RX1) (T := TX1) (N := 27) (v := .int (F 11)) C (hR.rdX 0 rfl) rfl in_X1 11 (by decide) q404 (fun _ h9 => h9) rfl dX1_reset_5 ?_
  refine x_callv0 (x_runV (n := 4) (As := [.int 1, .int 3, .int 0, .int (F 11)]) C hR hS (kX1_head l D N0 gp ad XF 1 3 0 (F 11) F M h _ hw) (lw_V q385 q387 qs4 q85 q388) rfl rfl (by decide +kernel) ⟨Nat.le_of_ble_eq_true rfl, Nat.le_of_ble_eq_true rfl⟩ (x_recv C (hR.rdX 0 rfl) rfl) rfl hl.1 rfl (Nat.le_of_ble_eq_true rfl) dX1_reset_8 ⟨x_bud0 hk, x_bud0 hn⟩) hS (fun X1 h12 H locs hq hR hS => ?_)
  clear hw
  obtain ⟨F11, M11, e1, hw⟩ := hq
  rw [e1] at hR
  refine lv_aload_n hx hb dX1_reset_11 rfl (lv_at hl 0 rfl) ?_
  refine lv_aload_n hx hb dX1_reset_12 rfl (lv_at hl 0 rfl) ?_
  refine x_get (ci := 0) (Cn := RX1) (T := TX1) (N := 27) (v := .int (F11 20)) C (hR.rdX 0 rfl) rfl in_X1 20 (by decide) q413 (fun _ h9 => h9) rfl dX1_reset_13 ?_
  refine x_callv0 (x_runV (n := 1) (As := [.int (F11 20)]) C hR hS (kX1_say l D N0 gp ad XF (F11 20) F11 M11 h12 _ hw) (lw_V q389 q391 qs5 q85 q392) rfl rfl (by decide +kernel) ⟨Nat.le_of_ble_eq_true rfl, Nat.le_of_ble_eq_true rfl⟩ (x_recv C (hR.rdX 0 rfl) rfl) rfl hl.1 rfl (Nat.le_of_ble_eq_true rfl) dX1_reset_16 ⟨x_bud0 hk, x_bud0 hn⟩) hS (fun X1 h14 H locs hq hR hS => ?_)
  clear hw
  obtain ⟨F13, M13, e1, hw⟩ := hq
  rw [e1] at hR
  refine lv_aload_n hx hb dX1_reset_19 rfl (lv_at hl 0 rfl) ?_
  refine lv_aload_n hx hb dX1_reset_20 rfl (lv_at hl 0 rfl) ?_
  refine x_get (ci := 0) (Cn := RX1) (T := TX1) (N := 27) (v := .int (F13 11)) C (hR.rdX 0 rfl) rfl in_X1 11 (by decide) q404 (fun _ h9 => h9) rfl dX1_reset_21 ?_
  obtain ⟨ca15, cb16, mc17, ms18, hca15, hcb16, hw⟩ := hw
  refine x_callv (x_runV (n := 1) (As := [.int (F13 11)]) C hR hS (kX1_over l D N0 gp ad XF (F13 11) F13 M13 h14 ca15 cb16 _ hw) (lw_V q660 q662 qs23 q85 q663) rfl rfl (by decide +kernel) ⟨Nat.le_of_ble_eq_true rfl, Nat.le_of_ble_eq_true rfl⟩ (x_recv C (hR.rdX 0 rfl) rfl) rfl hl.1 rfl (Nat.le_of_ble_eq_true rfl) dX1_reset_24 ⟨x_bud hk hca15, x_bud hn hcb16⟩) hS (fun X1 h20 H locs hq hR hS => ?_)
  clear hw
  obtain ⟨F19, M19, e1, hw⟩ := hq
  rw [e1] at hR
  have hk := x_budN hk hca15
  have hn := x_budN hn hcb16
  exact x_endv C hR hS ⟨rfl, ⟨_, _, rfl, hw⟩⟩ (x_le hk) (x_le hn) dX1_reset_27
/-- PageServer.turn()LPageServer$Stream; -/
abbrev rmX1_turn : Room := { frames := 3, cells := 0, slots := 0, locals := 64 }
section
variable {p : Program} {l : Launch} {e : Env} {s : State} {m : MethodId} {args : Array Value} {below : List Frame} {meth : Method} {c : Code} {D : va_G} {N0 : Nat} {gp : Nat → Nat} {ad : Nat → Nat} {XF : x_X}
def wX1_turn_b115 (post : Option Nat → Prop) (K4 : Option Nat → Int32 → Prop) (ad : Nat → Nat) (F : (Nat → Int32)) (M : (Nat → Nat → Int32)) (h : x_H) (x1 : Option Nat) (x2 : Int32) : Prop :=
  K4 x1 (x2 + 1)
theorem kX1_turn_b115 {post : Option Nat → Prop} {K4 : Option Nat → Int32 → Prop} {F : (Nat → Int32)} {M : (Nat → Nat → Int32)} {h : x_H} (C : x_C p s m args meth c cX1_turn 4 (some (.object "PageServer$Stream")) RX1 D N0 gp) (hK4 : ∀ (x1 : Option Nat) (x2 : Int32) (H : Heap) (locs : List Loc) (ls : Array Slot), x_R D s N0 (fixC ad F M ++ XF) h H → va_S (x_A N0) s.heap H locs → lv_has ls 4 [(0, .ref (ad 1000)), (1, va_rf x1), (2, .int x2)] → K4 x1 x2 → W p l e rmX1_turn s m args below meth c H locs 0 0 (MQ below (x_Qc D N0 (x_Va (qPa (fixC ad F M ++ XF) h post))) args s 0 0 (x_A N0)) (F0 m 4 ls [])) {x1 : Option Nat} {x2 : Int32} {H : Heap} {locs : List Loc} {ls : Array Slot} (hR : x_R D s N0 (fixC ad F M ++ XF) h H) (hS : va_S (x_A N0) s.heap H locs) (hl : lv_has ls 4 [(0, .ref (ad 1000)), (1, va_rf x1), (2, .int x2)]) (hw : wX1_turn_b115 post K4 ad F M h x1 x2) : W p l e rmX1_turn s m args below meth c H locs 0 0 (MQ below (x_Qc D N0 (x_Va (qPa (fixC ad F M ++ XF) h post))) args s 0 0 (x_A N0)) (F0 m 115 ls []) := by
  obtain ⟨⟨hx, hb, hml, hown, hts⟩, hr, hlocks, hG, hN⟩ := id C
  unfold wX1_turn_b115 at hw
  refine lv_iinc (v := x2 + 1) (lv' := [(2, .int (x2 + 1)), (0, .ref (ad 1000)), (1, va_rf x1)]) hx hb dX1_turn_115 hl (k := 2) rfl (x_inc 1 1 (by decide)) (by decide) (by simp only [List.filter_cons, List.filter_nil, x_cat1]; rfl) (fun ls hl => ?_)
  refine lv_goto (tgt := 4) hx hb dX1_turn_118 (by decide) ?_
  exact hK4 _ _ _ _ _ hR hS (lv_sub hl [1, 2, 0] rfl) hw
def wX1_turn_b113 (post : Option Nat → Prop) (K4 : Option Nat → Int32 → Prop) (ad : Nat → Nat) (F : (Nat → Int32)) (M : (Nat → Nat → Int32)) (h : x_H) (x2 : Int32) (x3 : Nat) : Prop :=
  wX1_turn_b115 post K4 ad F M h (some x3) x2
theorem kX1_turn_b113 {post : Option Nat → Prop} {K4 : Option Nat → Int32 → Prop} {F : (Nat → Int32)} {M : (Nat → Nat → Int32)} {h : x_H} (C : x_C p s m args meth c cX1_turn 4 (some (.object "PageServer$Stream")) RX1 D N0 gp) (hK4 : ∀ (x1 : Option Nat) (x2 : Int32) (H : Heap) (locs : List Loc) (ls : Array Slot), x_R D s N0 (fixC ad F M ++ XF) h H → va_S (x_A N0) s.heap H locs → lv_has ls 4 [(0, .ref (ad 1000)), (1, va_rf x1), (2, .int x2)] → K4 x1 x2 → W p l e rmX1_turn s m args below meth c H locs 0 0 (MQ below (x_Qc D N0 (x_Va (qPa (fixC ad F M ++ XF) h post))) args s 0 0 (x_A N0)) (F0 m 4 ls [])) {x2 : Int32} {x3 : Nat} {H : Heap} {locs : List Loc} {ls : Array Slot} (hR : x_R D s N0 (fixC ad F M ++ XF) h H) (hS : va_S (x_A N0) s.heap H locs) (hl : lv_has ls 4 [(0, .ref (ad 1000)), (2, .int x2), (3, .ref x3)]) (hw : wX1_turn_b113 post K4 ad F M h x2 x3) : W p l e rmX1_turn s m args below meth c H locs 0 0 (MQ below (x_Qc D N0 (x_Va (qPa (fixC ad F M ++ XF) h post))) args s 0 0 (x_A N0)) (F0 m 113 ls []) := by
  obtain ⟨⟨hx, hb, hml, hown, hts⟩, hr, hlocks, hG, hN⟩ := id C
  unfold wX1_turn_b113 at hw
  refine lv_aload_n hx hb dX1_turn_113 rfl (lv_at hl 2 rfl) ?_
  refine lv_astore_n (lv' := [(1, .ref x3), (0, .ref (ad 1000)), (2, .int x2), (3, .ref x3)]) hx hb dX1_turn_114 rfl hl (by decide) rfl (fun ls hl => ?_)
  exact kX1_turn_b115 C hK4 hR hS (lv_sub hl [1, 0, 2] rfl) hw
def wX1_turn_b85 (post : Option Nat → Prop) (K4 : Option Nat → Int32 → Prop) (ad : Nat → Nat) (F : (Nat → Int32)) (M : (Nat → Nat → Int32)) (h : x_H) (x1 : Nat) (x2 : Int32) (x3 : Nat) (s0 : Int32) (s1 : Int32) : Prop :=
  (s1 = s0 → ∃ y69 : Int32, x_f h x3 4 0 (.int y69) ∧ ∃ y71 : Int32, x_f h x1 4 0 (.int y71) ∧ (y71 ≤ y69 → wX1_turn_b115 post K4 ad F M h (some x1) x2) ∧ (¬ y71 ≤ y69 → wX1_turn_b113 post K4 ad F M h x2 x3)) ∧ (¬ s1 = s0 → ∃ y66 : Int32, x_f h x3 4 0 (.int y66) ∧ (y66 ≤ (F 21) → wX1_turn_b115 post K4 ad F M h (some x1) x2) ∧ (¬ y66 ≤ (F 21) → wX1_turn_b113 post K4 ad F M h x2 x3))
theorem kX1_turn_b85 {post : Option Nat → Prop} {K4 : Option Nat → Int32 → Prop} {F : (Nat → Int32)} {M : (Nat → Nat → Int32)} {h : x_H} (C : x_C p s m args meth c cX1_turn 4 (some (.object "PageServer$Stream")) RX1 D N0 gp) (hK4 : ∀ (x1 : Option Nat) (x2 : Int32) (H : Heap) (locs : List Loc) (ls : Array Slot), x_R D s N0 (fixC ad F M ++ XF) h H → va_S (x_A N0) s.heap H locs → lv_has ls 4 [(0, .ref (ad 1000)), (1, va_rf x1), (2, .int x2)] → K4 x1 x2 → W p l e rmX1_turn s m args below meth c H locs 0 0 (MQ below (x_Qc D N0 (x_Va (qPa (fixC ad F M ++ XF) h post))) args s 0 0 (x_A N0)) (F0 m 4 ls [])) {x1 : Nat} {x2 : Int32} {x3 : Nat} {s0 : Int32} {s1 : Int32} {H : Heap} {locs : List Loc} {ls : Array Slot} (hR : x_R D s N0 (fixC ad F M ++ XF) h H) (hS : va_S (x_A N0) s.heap H locs) (hl : lv_has ls 4 [(0, .ref (ad 1000)), (1, .ref x1), (2, .int x2), (3, .ref x3)]) (hw : wX1_turn_b85 post K4 ad F M h x1 x2 x3 s0 s1) : W p l e rmX1_turn s m args below meth c H locs 0 0 (MQ below (x_Qc D N0 (x_Va (qPa (fixC ad F M ++ XF) h post))) args s 0 0 (x_A N0)) (F0 m 85 ls [.int s0, .int s1]) := by
  obtain ⟨⟨hx, hb, hml, hown, hts⟩, hr, hlocks, hG, hN⟩ := id C
  unfold wX1_turn_b85 at hw
  refine lv_icmp_ne (tgt := 102) hx hb dX1_turn_85 (by decide) (fun c64 => ?_) (fun c64 => ?_)
  · replace hw := hw.2 c64
    refine lv_aload_n hx hb dX1_turn_102 rfl (lv_at hl 3 rfl) ?_
    obtain ⟨y66, hf65, hw⟩ := hw
    refine x_getHN (ci := 4) (Cn := RX5) (T := TX5) (N := 9) (k := 0) C hR hf65 rfl in_X5 (by decide) (x_nest C q320 rfl) (fun _ h9 => h9) dX1_turn_103 ?_
    refine lv_aload_n hx hb dX1_turn_106 rfl (lv_at hl 0 rfl) ?_
    refine x_get (ci := 0) (Cn := RX1) (T := TX1) (N := 27) (v := .int (F 21)) C (hR.rdX 0 rfl) rfl in_X1 21 (by decide) q414 (fun _ h9 => h9) rfl dX1_turn_107 ?_
    refine lv_icmp_le (tgt := 115) hx hb dX1_turn_110 (by decide) (fun c67 => ?_) (fun c67 => ?_)
    · replace hw := hw.1 c67
      exact kX1_turn_b115 C hK4 hR hS (lv_sub hl [0, 1, 2] rfl) hw
    · replace hw := hw.2 c67
      exact kX1_turn_b113 C hK4 hR hS (lv_sub hl [0, 2, 3] rfl) hw
  · replace hw := hw.1 c64
    refine lv_aload_n hx hb dX1_turn_88 rfl (lv_at hl 3 rfl) ?_
    obtain ⟨y69, hf68, hw⟩ := hw
    refine x_getHN (ci := 4) (Cn := RX5) (T := TX5) (N := 9) (k := 0) C hR hf68 rfl in_X5 (by decide) (x_nest C q320 rfl) (fun _ h9 => h9) dX1_turn_89 ?_
    refine lv_aload_n hx hb dX1_turn_92 rfl (lv_at hl 1 rfl) ?_
    obtain ⟨y71, hf70, hw⟩ := hw
    refine x_getHN (ci := 4) (Cn := RX5) (T := TX5) (N := 9) (k := 0) C hR hf70 rfl in_X5 (by decide) (x_nest C q320 rfl) (fun _ h9 => h9) dX1_turn_93 ?_
    refine lv_icmp_ge (tgt := 115) hx hb dX1_turn_96 (by decide) (fun c72 => ?_) (fun c72 => ?_)
    · replace hw := hw.1 c72
      exact kX1_turn_b115 C hK4 hR hS (lv_sub hl [0, 1, 2] rfl) hw
    · replace hw := hw.2 c72
      refine lv_goto (tgt := 113) hx hb dX1_turn_99 (by decide) ?_
      exact kX1_turn_b113 C hK4 hR hS (lv_sub hl [0, 2, 3] rfl) hw
def wX1_turn_b69 (post : Option Nat → Prop) (K4 : Option Nat → Int32 → Prop) (ad : Nat → Nat) (F : (Nat → Int32)) (M : (Nat → Nat → Int32)) (h : x_H) (x1 : Nat) (x2 : Int32) (x3 : Nat) (s0 : Int32) : Prop :=
  ∃ y62 : Int32, x_f h x1 4 0 (.int y62) ∧ (y62 ≤ (F 21) → wX1_turn_b85 post K4 ad F M h x1 x2 x3 0 s0) ∧ (¬ y62 ≤ (F 21) → wX1_turn_b85 post K4 ad F M h x1 x2 x3 1 s0)
theorem kX1_turn_b69 {post : Option Nat → Prop} {K4 : Option Nat → Int32 → Prop} {F : (Nat → Int32)} {M : (Nat → Nat → Int32)} {h : x_H} (C : x_C p s m args meth c cX1_turn 4 (some (.object "PageServer$Stream")) RX1 D N0 gp) (hK4 : ∀ (x1 : Option Nat) (x2 : Int32) (H : Heap) (locs : List Loc) (ls : Array Slot), x_R D s N0 (fixC ad F M ++ XF) h H → va_S (x_A N0) s.heap H locs → lv_has ls 4 [(0, .ref (ad 1000)), (1, va_rf x1), (2, .int x2)] → K4 x1 x2 → W p l e rmX1_turn s m args below meth c H locs 0 0 (MQ below (x_Qc D N0 (x_Va (qPa (fixC ad F M ++ XF) h post))) args s 0 0 (x_A N0)) (F0 m 4 ls [])) {x1 : Nat} {x2 : Int32} {x3 : Nat} {s0 : Int32} {H : Heap} {locs : List Loc} {ls : Array Slot} (hR : x_R D s N0 (fixC ad F M ++ XF) h H) (hS : va_S (x_A N0) s.heap H locs) (hl : lv_has ls 4 [(0, .ref (ad 1000)), (1, .ref x1), (2, .int x2), (3, .ref x3)]) (hw : wX1_turn_b69 post K4 ad F M h x1 x2 x3 s0) : W p l e rmX1_turn s m args below meth c H locs 0 0 (MQ below (x_Qc D N0 (x_Va (qPa (fixC ad F M ++ XF) h post))) args s 0 0 (x_A N0)) (F0 m 69 ls [.int s0]) := by
  obtain ⟨⟨hx, hb, hml, hown, hts⟩, hr, hlocks, hG, hN⟩ := id C
  unfold wX1_turn_b69 at hw
  refine lv_aload_n hx hb dX1_turn_69 rfl (lv_at hl 1 rfl) ?_
  obtain ⟨y62, hf61, hw⟩ := hw
  refine x_getHN (ci := 4) (Cn := RX5) (T := TX5) (N := 9) (k := 0) C hR hf61 rfl in_X5 (by decide) (x_nest C q320 rfl) (fun _ h9 => h9) dX1_turn_70 ?_
  refine lv_aload_n hx hb dX1_turn_73 rfl (lv_at hl 0 rfl) ?_
  refine x_get (ci := 0) (Cn := RX1) (T := TX1) (N := 27) (v := .int (F 21)) C (hR.rdX 0 rfl) rfl in_X1 21 (by decide) q414 (fun _ h9 => h9) rfl dX1_turn_74 ?_
  refine lv_icmp_le (tgt := 84) hx hb dX1_turn_77 (by decide) (fun c63 => ?_) (fun c63 => ?_)
  · replace hw := hw.1 c63
    refine lv_iconst (v := 0) hx hb dX1_turn_84 (by decide) ?_
    exact kX1_turn_b85 C hK4 hR hS (lv_sub hl [0, 1, 2, 3] rfl) hw
  · replace hw := hw.2 c63
    refine lv_iconst (v := 1) hx hb dX1_turn_80 (by decide) ?_
    refine lv_goto (tgt := 85) hx hb dX1_turn_81 (by decide) ?_
    exact kX1_turn_b85 C hK4 hR hS (lv_sub hl [0, 1, 2, 3] rfl) hw
def wX1_turn_b121 (post : Option Nat → Prop) (ad : Nat → Nat) (F : (Nat → Int32)) (M : (Nat → Nat → Int32)) (h : x_H) (x1 : Option Nat) : Prop :=
  post x1 
theorem kX1_turn_b121 {post : Option Nat → Prop} {F : (Nat → Int32)} {M : (Nat → Nat → Int32)} {h : x_H} (C : x_C p s m args meth c cX1_turn 4 (some (.object "PageServer$Stream")) RX1 D N0 gp) {x1 : Option Nat} {H : Heap} {locs : List Loc} {ls : Array Slot} (hR : x_R D s N0 (fixC ad F M ++ XF) h H) (hS : va_S (x_A N0) s.heap H locs) (hl : lv_has ls 4 [(1, va_rf x1)]) (hw : wX1_turn_b121 post ad F M h x1) : W p l e rmX1_turn s m args below meth c H locs 0 0 (MQ below (x_Qc D N0 (x_Va (qPa (fixC ad F M ++ XF) h post))) args s 0 0 (x_A N0)) (F0 m 121 ls []) := by
  obtain ⟨⟨hx, hb, hml, hown, hts⟩, hr, hlocks, hG, hN⟩ := id C
  unfold wX1_turn_b121 at hw
  refine x_aload_nO hx hb dX1_turn_121 rfl (lv_at hl 0 rfl) ?_
  exact x_enda (v := x1) C (Or.inl ⟨_, rfl⟩) hR hS ⟨_, rfl, ⟨rfl, rfl, hw⟩⟩ (Nat.le_refl _) (Nat.le_refl _) dX1_turn_122
def tX1_turn_b4 (post : Option Nat → Prop) (K4 : Option Nat → Int32 → Prop) (ad : Nat → Nat) (F : (Nat → Int32)) (M : (Nat → Nat → Int32)) (h : x_H) (x1 : Option Nat) (x2 : Int32) : Prop :=
  ∃ (t39 : Nat) (fs40 : List Value), h (ad 1) = some (t39, .inr (7, fs40)) ∧ wJ2_size (fun r38 => (r38 ≤ x2 → wX1_turn_b121 post ad F M h x1) ∧ (¬ r38 ≤ x2 → ∃ (t44 : Nat) (fs45 : List Value), h (ad 1) = some (t44, .inr (7, fs45)) ∧ wJ2_get (fun r43 => ∃ a47 : Nat, r43 = some a47 ∧ ∃ (t48 : Nat) (fs49 : List Value), h a47 = some (t48, .inr (4, fs49)) ∧ ∃ y52 : Int32, x_f h a47 4 4 (.int y52) ∧ (y52 = 0 → wX1_turn_b115 post K4 ad F M h x1 x2) ∧ (¬ y52 = 0 → ∃ y55 : Int32, x_f h a47 4 1 (.int y55) ∧ (0 < y55 → (x1 = none → wX1_turn_b115 post K4 ad F M h (some a47) x2) ∧ (∀ a57 : Nat, x1 = some a57 → ∃ y59 : Int32, x_f h a47 4 0 (.int y59) ∧ (y59 ≤ (F 21) → wX1_turn_b69 post K4 ad F M h a57 x2 a47 0) ∧ (¬ y59 ≤ (F 21) → wX1_turn_b69 post K4 ad F M h a57 x2 a47 1))) ∧ (¬ 0 < y55 → wX1_turn_b115 post K4 ad F M h x1 x2))) (ad 1) x2 h)) (ad 1) h
def wX1_turn_b4 (post : Option Nat → Prop) (ad : Nat → Nat) (F : (Nat → Int32)) (M : (Nat → Nat → Int32)) (h : x_H) : Nat → Option Nat → Int32 → Prop
  | 0 => fun _ _ => False
  | n + 1 => fun x1 x2 => tX1_turn_b4 post (wX1_turn_b4 post ad F M h n) ad F M h x1 x2
theorem kX1_turn_b4 {post : Option Nat → Prop} {F : (Nat → Int32)} {M : (Nat → Nat → Int32)} {h : x_H} (C : x_C p s m args meth c cX1_turn 4 (some (.object "PageServer$Stream")) RX1 D N0 gp) : ∀ (nn : Nat) (x1 : Option Nat) (x2 : Int32) (H : Heap) (locs : List Loc) (ls : Array Slot), x_R D s N0 (fixC ad F M ++ XF) h H → va_S (x_A N0) s.heap H locs → lv_has ls 4 [(0, .ref (ad 1000)), (1, va_rf x1), (2, .int x2)] → wX1_turn_b4 post ad F M h nn x1 x2 → W p l e rmX1_turn s m args below meth c H locs 0 0 (MQ below (x_Qc D N0 (x_Va (qPa (fixC ad F M ++ XF) h post))) args s 0 0 (x_A N0)) (F0 m 4 ls []) := by
  obtain ⟨⟨hx, hb, hml, hown, hts⟩, hr, hlocks, hG, hN⟩ := id C
  intro nn
  induction nn with
  | zero =>
    intro x1 x2 H locs ls hR hS hl hw
    exact False.elim hw
  | succ nn ih =>
    intro x1 x2 H locs ls hR hS hl hw
    have hK4 := ih
    replace hw : tX1_turn_b4 post (wX1_turn_b4 post ad F M h nn) ad F M h x1 x2 := hw
    unfold tX1_turn_b4 at hw
    refine lv_iload_n hx hb dX1_turn_4 rfl (lv_at hl 2 rfl) ?_
    refine lv_aload_n hx hb dX1_turn_5 rfl (lv_at hl 0 rfl) ?_
    refine x_get (ci := 0) (Cn := RX1) (T := TX1) (N := 27) (v := .ref (ad 1)) C (hR.rdX 0 rfl) rfl in_X1 1 (by decide) q394 (fun _ h9 => h9) rfl dX1_turn_6 ?_
    obtain ⟨t39, fs40, he41, hw⟩ := hw
    refine x_calli0 (x_runV (n := 0) (As := []) C hR hS (kJ2_size l D N0 gp _ (ad 1) h _ hw) (lw_V q358 q359 q360 q88 q361) rfl rfl (by decide +kernel) ⟨Nat.le_of_ble_eq_true rfl, Nat.le_of_ble_eq_true rfl⟩ (x_recv C (hR.rdH he41) rfl) rfl hl.1 rfl (Nat.le_of_ble_eq_true rfl) dX1_turn_9 ⟨Nat.le_refl _, Nat.le_refl _⟩) hS (fun r38 X1 h1 H locs hq hR hS => ?_)
    clear hw
    obtain ⟨e1, e2, hw⟩ := hq
    rw [e1, e2] at hR
    refine lv_icmp_ge (tgt := 121) hx hb dX1_turn_12 (by decide) (fun c42 => ?_) (fun c42 => ?_)
    · replace hw := hw.1 c42
      exact kX1_turn_b121 C hR hS (lv_sub hl [1] rfl) hw
    · replace hw := hw.2 c42
      refine lv_aload_n hx hb dX1_turn_15 rfl (lv_at hl 0 rfl) ?_
      refine x_get (ci := 0) (Cn := RX1) (T := TX1) (N := 27) (v := .ref (ad 1)) C (hR.rdX 0 rfl) rfl in_X1 1 (by decide) q394 (fun _ h9 => h9) rfl dX1_turn_16 ?_
      refine lv_iload_n hx hb dX1_turn_19 rfl (lv_at hl 2 rfl) ?_
      obtain ⟨t44, fs45, he46, hw⟩ := hw
      refine x_calla0 (x_runV (n := 1) (As := [.int x2]) C hR hS (kJ2_get l D N0 gp _ (ad 1) x2 h _ hw) (lw_V q598 q599 q600 q88 q601) rfl rfl (by decide +kernel) ⟨Nat.le_of_ble_eq_true rfl, Nat.le_of_ble_eq_true rfl⟩ (x_recv C (hR.rdH he46) rfl) rfl hl.1 rfl (Nat.le_of_ble_eq_true rfl) dX1_turn_20 ⟨Nat.le_refl _, Nat.le_refl _⟩) hS (fun r43 X1 h1 H locs hq hR hS => ?_)
      clear hw
      obtain ⟨e1, e2, hw⟩ := hq
      rw [e1, e2] at hR
      obtain ⟨a47, ea47, hw⟩ := hw
      rw [ea47]
      obtain ⟨t48, fs49, he50, hw⟩ := hw
      refine x_castH (ci := 4) (Cn := RX5) (T := TX5) (N := 9) C hR he50 rfl q313 dX1_turn_23 ?_
      refine lv_astore_n (lv' := [(3, .ref a47), (0, .ref (ad 1000)), (1, va_rf x1), (2, .int x2)]) hx hb dX1_turn_26 rfl hl (by decide) rfl (fun ls hl => ?_)
      refine lv_aload_n hx hb dX1_turn_27 rfl (lv_at hl 0 rfl) ?_
      obtain ⟨y52, hf51, hw⟩ := hw
      refine x_getHN (ci := 4) (Cn := RX5) (T := TX5) (N := 9) (k := 4) C hR hf51 rfl in_X5 (by decide) (x_nest C q328 rfl) (fun _ h9 => h9) dX1_turn_28 ?_
      refine lv_if_eq (tgt := 115) hx hb dX1_turn_31 (by decide) (fun c53 => ?_) (fun c53 => ?_)
      · replace hw := hw.1 c53
        exact kX1_turn_b115 C hK4 hR hS (lv_sub hl [1, 2, 3] rfl) hw
      · replace hw := hw.2 c53
        refine lv_aload_n hx hb dX1_turn_34 rfl (lv_at hl 0 rfl) ?_
        obtain ⟨y55, hf54, hw⟩ := hw
        refine x_getHN (ci := 4) (Cn := RX5) (T := TX5) (N := 9) (k := 1) C hR hf54 rfl in_X5 (by decide) (x_nest C q322 rfl) (fun _ h9 => h9) dX1_turn_35 ?_
        refine lv_if_gt (tgt := 44) hx hb dX1_turn_38 (by decide) (fun c56 => ?_) (fun c56 => ?_)
        · replace hw := hw.1 c56
          refine x_aload_nO hx hb dX1_turn_44 rfl (lv_at hl 2 rfl) ?_
          cases x1 with
          | none =>
            replace hw := hw.1 rfl
            refine lv_ifnonnullN hx hb dX1_turn_45 ?_
            refine lv_aload_n hx hb dX1_turn_48 rfl (lv_at hl 0 rfl) ?_
            refine lv_astore_n (lv' := [(1, .ref a47), (3, .ref a47), (0, .ref (ad 1000)), (2, .int x2)]) hx hb dX1_turn_49 rfl hl (by decide) rfl (fun ls hl => ?_)
            refine lv_goto (tgt := 115) hx hb dX1_turn_50 (by decide) ?_
            exact kX1_turn_b115 C hK4 hR hS (lv_sub hl [2, 0, 3] rfl) hw
          | some a57 =>
            replace hw := hw.2 a57 rfl
            refine lv_ifnonnull (tgt := 53) hx hb dX1_turn_45 (by decide) ?_
            refine lv_aload_n hx hb dX1_turn_53 rfl (lv_at hl 0 rfl) ?_
            obtain ⟨y59, hf58, hw⟩ := hw
            refine x_getHN (ci := 4) (Cn := RX5) (T := TX5) (N := 9) (k := 0) C hR hf58 rfl in_X5 (by decide) (x_nest C q320 rfl) (fun _ h9 => h9) dX1_turn_54 ?_
            refine lv_aload_n hx hb dX1_turn_57 rfl (lv_at hl 1 rfl) ?_
            refine x_get (ci := 0) (Cn := RX1) (T := TX1) (N := 27) (v := .int (F 21)) C (hR.rdX 0 rfl) rfl in_X1 21 (by decide) q414 (fun _ h9 => h9) rfl dX1_turn_58 ?_
            refine lv_icmp_le (tgt := 68) hx hb dX1_turn_61 (by decide) (fun c60 => ?_) (fun c60 => ?_)
            · replace hw := hw.1 c60
              refine lv_iconst (v := 0) hx hb dX1_turn_68 (by decide) ?_
              exact kX1_turn_b69 C hK4 hR hS (lv_sub hl [1, 2, 3, 0] rfl) hw
            · replace hw := hw.2 c60
              refine lv_iconst (v := 1) hx hb dX1_turn_64 (by decide) ?_
              refine lv_goto (tgt := 69) hx hb dX1_turn_65 (by decide) ?_
              exact kX1_turn_b69 C hK4 hR hS (lv_sub hl [1, 2, 3, 0] rfl) hw
        · replace hw := hw.2 c56
          refine lv_goto (tgt := 115) hx hb dX1_turn_41 (by decide) ?_
          exact kX1_turn_b115 C hK4 hR hS (lv_sub hl [1, 2, 3] rfl) hw
end
def wX1_turn (post : Option Nat → Prop) (ad : Nat → Nat) (F : (Nat → Int32)) (M : (Nat → Nat → Int32)) (h : x_H) : Prop :=
  ∃ n37 : Nat, wX1_turn_b4 post ad F M h n37 none 0
theorem kX1_turn (l : Launch) (D : va_G) (N0 : Nat) (gp : Nat → Nat) (ad : Nat → Nat) (XF : x_X) (F : (Nat → Int32)) (M : (Nat → Nat → Int32)) (h : x_H) (post : Option Nat → Prop) (hw : wX1_turn post ad F M h ) : Met l yX1_turn (ws_ yX1_turn cX1_turn 4 (some (.object "PageServer$Stream"))) rmX1_turn (x_Pc D N0 gp (fixC ad F M ++ XF) h [.ref (ad 1000)]) (x_Qc D N0 (x_Va (qPa (fixC ad F M ++ XF) h post))) 0 0 (x_A N0) := by
  refine x_start (lv := [(0, .ref (ad 1000))]) (by decide) rfl (Nat.le_of_ble_eq_true rfl) rfl ?_
  intro p e s m below meth c C hR ls hl
  have hS : va_S (x_A N0) s.heap s.heap [] := va_S.rf
  obtain ⟨⟨hx, hb, hml, hown, hts⟩, hr, hlocks, hG, hN⟩ := id C
  unfold wX1_turn at hw
  refine lv_null hx hb dX1_turn_0 ?_
  refine lv_astore_nN (lv' := [(1, .null), (0, .ref (ad 1000))]) hx hb dX1_turn_1 rfl hl (by decide) rfl (fun ls hl => ?_)
  refine lv_iconst (v := 0) hx hb dX1_turn_2 (by decide) ?_
  refine lv_istore_n (lv' := [(2, .int 0), (1, .null), (0, .ref (ad 1000))]) hx hb dX1_turn_3 rfl hl (by decide) rfl (fun ls hl => ?_)
  obtain ⟨n37, hw⟩ := hw
  exact kX1_turn_b4 C n37 _ _ _ _ _ hR hS (lv_sub hl [2, 1, 0] rfl) hw
